set_option maxRecDepth 100000
theorem zdf_J2 : ∀ j, j < 3 → defaultValue (tyJ2 j) = vp_V [.int 0, .null, .int 0] j := by
  intro j hj
  match j, hj with
  | 0, _ => rfl
  | 1, _ => rfl
  | 2, _ => rfl
  | j + 3, h => exact absurd h (by omega)
theorem zdf_X1 : ∀ j, j < 12 → defaultValue (tyX1 j) = vp_V [.null, .int 0, .null, .null, .null, .int 0, .int 0, .int 0, .null, .null, .null, .null] j := by
  intro j hj
  match j, hj with
  | 0, _ => rfl
  | 1, _ => rfl
  | 2, _ => rfl
  | 3, _ => rfl
  | 4, _ => rfl
  | 5, _ => rfl
  | 6, _ => rfl
  | 7, _ => rfl
  | 8, _ => rfl
  | 9, _ => rfl
  | 10, _ => rfl
  | 11, _ => rfl
  | j + 12, h => exact absurd h (by omega)
theorem zdf_X2 : ∀ j, j < 5 → defaultValue (tyX2 j) = vp_V [.int 0, .int 0, .null, .null, .null] j := by
  intro j hj
  match j, hj with
  | 0, _ => rfl
  | 1, _ => rfl
  | 2, _ => rfl
  | 3, _ => rfl
  | 4, _ => rfl
  | j + 5, h => exact absurd h (by omega)
theorem zdf_X3 : ∀ j, j < 35 → defaultValue (tyX3 j) = vp_V [.null, .int 0, .int 0, .int 0, .int 0, .int 0, .null, .null, .null, .null, .null, .null, .null, .int 0, .null, .int 0, .null, .null, .null, .null, .int 0, .null, .null, .null, .null, .null, .null, .int 0, .null, .int 0, .null, .int 0, .null, .null, .int 0] j := by
  intro j hj
  match j, hj with
  | 0, _ => rfl
  | 1, _ => rfl
  | 2, _ => rfl
  | 3, _ => rfl
  | 4, _ => rfl
  | 5, _ => rfl
  | 6, _ => rfl
  | 7, _ => rfl
  | 8, _ => rfl
  | 9, _ => rfl
  | 10, _ => rfl
  | 11, _ => rfl
  | 12, _ => rfl
  | 13, _ => rfl
  | 14, _ => rfl
  | 15, _ => rfl
  | 16, _ => rfl
  | 17, _ => rfl
  | 18, _ => rfl
  | 19, _ => rfl
  | 20, _ => rfl
  | 21, _ => rfl
  | 22, _ => rfl
  | 23, _ => rfl
  | 24, _ => rfl
  | 25, _ => rfl
  | 26, _ => rfl
  | 27, _ => rfl
  | 28, _ => rfl
  | 29, _ => rfl
  | 30, _ => rfl
  | 31, _ => rfl
  | 32, _ => rfl
  | 33, _ => rfl
  | 34, _ => rfl
  | j + 35, h => exact absurd h (by omega)
theorem zdf_X4 : ∀ j, j < 7 → defaultValue (tyX4 j) = vp_V [.int 0, .int 0, .int 0, .int 0, .int 0, .int 0, .int 0] j := by
  intro j hj
  match j, hj with
  | 0, _ => rfl
  | 1, _ => rfl
  | 2, _ => rfl
  | 3, _ => rfl
  | 4, _ => rfl
  | 5, _ => rfl
  | 6, _ => rfl
  | j + 7, h => exact absurd h (by omega)
theorem zdf_X5 : ∀ j, j < 2 → defaultValue (tyX5 j) = vp_V [.int 0, .int 0] j := by
  intro j hj
  match j, hj with
  | 0, _ => rfl
  | 1, _ => rfl
  | j + 2, h => exact absurd h (by omega)
theorem zdf_X6 : ∀ j, j < 2 → defaultValue (tyX6 j) = vp_V [.null, .null] j := by
  intro j hj
  match j, hj with
  | 0, _ => rfl
  | 1, _ => rfl
  | j + 2, h => exact absurd h (by omega)
theorem zdf_X7 : ∀ j, j < 7 → defaultValue (tyX7 j) = vp_V [.null, .int 0, .int 0, .null, .null, .int 0, .int 0] j := by
  intro j hj
  match j, hj with
  | 0, _ => rfl
  | 1, _ => rfl
  | 2, _ => rfl
  | 3, _ => rfl
  | 4, _ => rfl
  | 5, _ => rfl
  | 6, _ => rfl
  | j + 7, h => exact absurd h (by omega)
theorem zdf_X8 : ∀ j, j < 8 → defaultValue (tyX8 j) = vp_V [.null, .null, .null, .int 0, .int 0, .null, .int 0, .null] j := by
  intro j hj
  match j, hj with
  | 0, _ => rfl
  | 1, _ => rfl
  | 2, _ => rfl
  | 3, _ => rfl
  | 4, _ => rfl
  | 5, _ => rfl
  | 6, _ => rfl
  | 7, _ => rfl
  | j + 8, h => exact absurd h (by omega)
theorem zdf_X9 : ∀ j, j < 4 → defaultValue (tyX9 j) = vp_V [.null, .null, .null, .null] j := by
  intro j hj
  match j, hj with
  | 0, _ => rfl
  | 1, _ => rfl
  | 2, _ => rfl
  | 3, _ => rfl
  | j + 4, h => exact absurd h (by omega)
theorem zdf_X10 : ∀ j, j < 7 → defaultValue (tyX10 j) = vp_V [.null, .null, .null, .int 0, .int 0, .int 0, .null] j := by
  intro j hj
  match j, hj with
  | 0, _ => rfl
  | 1, _ => rfl
  | 2, _ => rfl
  | 3, _ => rfl
  | 4, _ => rfl
  | 5, _ => rfl
  | 6, _ => rfl
  | j + 7, h => exact absurd h (by omega)
abbrev wX1_init : List Cond := ws_ yX1_init cX1_init 2 none
abbrev wX1_scrap : List Cond := ws_ yX1_scrap cX1_scrap 2 (some .int)
abbrev wX1_events : List Cond := ws_ yX1_events cX1_events 1 (some .int)
abbrev wX1_dropped : List Cond := ws_ yX1_dropped cX1_dropped 1 (some .int)
abbrev wX1_present : List Cond := ws_ yX1_present cX1_present 1 (some .int)
abbrev wX1_parts : List Cond := ws_ yX1_parts cX1_parts 8 (some .int)
abbrev wX1_orders : List Cond := ws_ yX1_orders cX1_orders 1 (some .int)
abbrev wX1_orderMany : List Cond := ws_ yX1_orderMany cX1_orderMany 2 (some .int)
abbrev wX1_ids : List Cond := ws_ yX1_ids cX1_ids 3 (some .int)
abbrev wX1_negated : List Cond := ws_ yX1_negated cX1_negated 1 (some .int)
abbrev wX1_and : List Cond := ws_ yX1_and cX1_and 2 (some .int)
abbrev wX1_or : List Cond := ws_ yX1_or cX1_or 2 (some .int)
abbrev wX1_setOffset : List Cond := ws_ yX1_setOffset cX1_setOffset 4 (some .int)
abbrev wX1_isNode : List Cond := ws_ yX1_isNode cX1_isNode 1 (some .boolean)
abbrev wX1_isIn : List Cond := ws_ yX1_isIn cX1_isIn 3 (some .boolean)
abbrev wX1_setPatience : List Cond := ws_ yX1_setPatience cX1_setPatience 3 (some .int)
abbrev wX1_event : List Cond := ws_ yX1_event cX1_event 7 (some .int)
abbrev wX1_comer : List Cond := ws_ yX1_comer cX1_comer 7 (some (.object "LogGrammar$Event"))
abbrev wX1_come : List Cond := ws_ yX1_come cX1_come 2 none
abbrev wX1_insert : List Cond := ws_ yX1_insert cX1_insert 3 none
abbrev wX1_find : List Cond := ws_ yX1_find cX1_find 3 none
abbrev wX1_offer : List Cond := ws_ yX1_offer cX1_offer 7 (some .int)
abbrev wX1_isBarred : List Cond := ws_ yX1_isBarred cX1_isBarred 8 (some .boolean)
abbrev wX1_close : List Cond := ws_ yX1_close cX1_close 2 (some .int)
abbrev wX1_openMany : List Cond := ws_ yX1_openMany cX1_openMany 6 (some .int)
abbrev wX1_kindIs : List Cond := ws_ yX1_kindIs cX1_kindIs 2 (some .int)
abbrev wX1_put : List Cond := ws_ yX1_put cX1_put 2 (some .int)
abbrev wX1_valueIs : List Cond := ws_ yX1_valueIs cX1_valueIs 3 (some .int)
abbrev wX1_not : List Cond := ws_ yX1_not cX1_not 1 (some .int)
abbrev wX1_join : List Cond := ws_ yX1_join cX1_join 9 (some .int)
abbrev wX1_both : List Cond := ws_ yX1_both cX1_both 1 (some .int)
abbrev wX1_either : List Cond := ws_ yX1_either cX1_either 1 (some .int)
abbrev wX1_before : List Cond := ws_ yX1_before cX1_before 1 (some .int)
abbrev wX1_since : List Cond := ws_ yX1_since cX1_since 2 (some .int)
abbrev wX1_isBound : List Cond := ws_ yX1_isBound cX1_isBound 1 (some .boolean)
abbrev wX1_once : List Cond := ws_ yX1_once cX1_once 2 (some .int)
abbrev wX1_next : List Cond := ws_ yX1_next cX1_next 1 (some .int)
abbrev wX1_until : List Cond := ws_ yX1_until cX1_until 2 (some .int)
abbrev wX1_soon : List Cond := ws_ yX1_soon cX1_soon 2 (some .int)
abbrev wX1_many : List Cond := ws_ yX1_many cX1_many 3 (some .int)
abbrev wX1_watch : List Cond := ws_ yX1_watch cX1_watch 3 (some .int)
abbrev wX1_eventAt : List Cond := ws_ yX1_eventAt cX1_eventAt 2 (some .int)
abbrev wX1_timeOf : List Cond := ws_ yX1_timeOf cX1_timeOf 2 (some .int)
abbrev wX1_its : List Cond := ws_ yX1_its cX1_its 2 (some (.object "LogGrammar$Event"))
abbrev wX1_isLate : List Cond := ws_ yX1_isLate cX1_isLate 2 (some .boolean)
abbrev wX1_count : List Cond := ws_ yX1_count cX1_count 5 (some .int)
abbrev wX1_greatest : List Cond := ws_ yX1_greatest cX1_greatest 5 (some .int)
abbrev wX1_greatestByAll : List Cond := ws_ yX1_greatestByAll cX1_greatestByAll 7 (some .int)
abbrev wX1_answer : List Cond := ws_ yX1_answer cX1_answer 4 (some .int)
abbrev wX1_monitor : List Cond := ws_ yX1_monitor cX1_monitor 2 (some (.object "LogGrammar$Monitor"))
abbrev wX1_answerAnew : List Cond := ws_ yX1_answerAnew cX1_answerAnew 4 (some .int)
abbrev wX1_knownSince : List Cond := ws_ yX1_knownSince cX1_knownSince 4 (some .int)
abbrev wX1_answers : List Cond := ws_ yX1_answers cX1_answers 7 (some .int)
abbrev wX1_takenBack : List Cond := ws_ yX1_takenBack cX1_takenBack 2 (some .int)
abbrev wX1_back : List Cond := ws_ yX1_back cX1_back 2 (some .int)
abbrev wX1_ahead : List Cond := ws_ yX1_ahead cX1_ahead 2 (some .int)
abbrev wX1_overOrders : List Cond := ws_ yX1_overOrders cX1_overOrders 7 (some .int)
abbrev wX1_explanation : List Cond := ws_ yX1_explanation cX1_explanation 4 (some .int)
abbrev wX1_setFor : List Cond := ws_ yX1_setFor cX1_setFor 9 (some (.object "java/util/List"))
abbrev wX1_choose : List Cond := ws_ yX1_choose cX1_choose 8 (some (.object "java/util/List"))
abbrev wX1_does : List Cond := ws_ yX1_does cX1_does 6 (some .boolean)
abbrev wX1_explainedBy : List Cond := ws_ yX1_explainedBy cX1_explainedBy 5 (some .int)
abbrev wX1_mend : List Cond := ws_ yX1_mend cX1_mend 4 (some .int)
abbrev wX1_mendedBy : List Cond := ws_ yX1_mendedBy cX1_mendedBy 5 (some .int)
abbrev wX10_init : List Cond := ws_ yX10_init cX10_init 5 none
abbrev wX10_go : List Cond := ws_ yX10_go cX10_go 6 none
abbrev wX2_init : List Cond := ws_ yX2_init cX2_init 3 none
abbrev wX2_add : List Cond := ws_ yX2_add cX2_add 4 none
abbrev wX2_over : List Cond := ws_ yX2_over cX2_over 5 (some (.object "LogGrammar$Summary"))
abbrev wX3_init : List Cond := ws_ yX3_init cX3_init 1 none
abbrev wX3_thrown : List Cond := ws_ yX3_thrown cX3_thrown 1 (some .int)
abbrev wX3_setOffset : List Cond := ws_ yX3_setOffset cX3_setOffset 4 (some .int)
abbrev wX3_isNode : List Cond := ws_ yX3_isNode cX3_isNode 1 (some .boolean)
abbrev wX3_in : List Cond := ws_ yX3_in cX3_in 3 (some .boolean)
abbrev wX3_goes : List Cond := ws_ yX3_goes cX3_goes 4 (some .boolean)
abbrev wX3_setPatience : List Cond := ws_ yX3_setPatience cX3_setPatience 3 (some .int)
abbrev wX3_event : List Cond := ws_ yX3_event cX3_event 7 (some .int)
abbrev wX3_canCome : List Cond := ws_ yX3_canCome cX3_canCome 8 (some .boolean)
abbrev wX3_isKind : List Cond := ws_ yX3_isKind cX3_isKind 1 (some .boolean)
abbrev wX3_comes : List Cond := ws_ yX3_comes cX3_comes 8 none
abbrev wX3_keepsAll : List Cond := ws_ yX3_keepsAll cX3_keepsAll 4 (some .int)
abbrev wX3_keeps : List Cond := ws_ yX3_keeps cX3_keeps 7 (some .int)
abbrev wX3_lines : List Cond := ws_ yX3_lines cX3_lines 2 none
abbrev wX3_idsOf : List Cond := ws_ yX3_idsOf cX3_idsOf 3 (some .int)
abbrev wX3_finds : List Cond := ws_ yX3_finds cX3_finds 7 none
abbrev wX3_tellsAll : List Cond := ws_ yX3_tellsAll cX3_tellsAll 4 none
abbrev wX3_fromOf : List Cond := ws_ yX3_fromOf cX3_fromOf 1 (some .int)
abbrev wX3_tellsAt : List Cond := ws_ yX3_tellsAt cX3_tellsAt 8 (some .int)
abbrev wX3_isValue : List Cond := ws_ yX3_isValue cX3_isValue 4 (some .boolean)
abbrev wX3_at : List Cond := ws_ yX3_at cX3_at 3 (some .int)
abbrev wX3_not : List Cond := ws_ yX3_not cX3_not 1 (some .int)
abbrev wX3_and : List Cond := ws_ yX3_and cX3_and 2 (some .int)
abbrev wX3_or : List Cond := ws_ yX3_or cX3_or 2 (some .int)
abbrev wX3_sinceAt : List Cond := ws_ yX3_sinceAt cX3_sinceAt 8 (some .int)
abbrev wX3_isNear : List Cond := ws_ yX3_isNear cX3_isNear 4 (some .boolean)
abbrev wX3_onceAt : List Cond := ws_ yX3_onceAt cX3_onceAt 6 (some .int)
abbrev wX3_untilAt : List Cond := ws_ yX3_untilAt cX3_untilAt 8 (some .int)
abbrev wX3_isOpenFor : List Cond := ws_ yX3_isOpenFor cX3_isOpenFor 3 (some .boolean)
abbrev wX3_soonAt : List Cond := ws_ yX3_soonAt cX3_soonAt 6 (some .int)
abbrev wX3_manyAt : List Cond := ws_ yX3_manyAt cX3_manyAt 8 (some .int)
abbrev wX3_offer : List Cond := ws_ yX3_offer cX3_offer 8 (some .int)
abbrev wX3_isGuarded : List Cond := ws_ yX3_isGuarded cX3_isGuarded 4 (some .boolean)
abbrev wX3_goesAway : List Cond := ws_ yX3_goesAway cX3_goesAway 4 none
abbrev wX3_close : List Cond := ws_ yX3_close cX3_close 1 (some .int)
abbrev wX3_kindIs : List Cond := ws_ yX3_kindIs cX3_kindIs 2 (some .int)
abbrev wX3_lays : List Cond := ws_ yX3_lays cX3_lays 4 (some .int)
abbrev wX3_puts : List Cond := ws_ yX3_puts cX3_puts 5 none
abbrev wX3_valueIs : List Cond := ws_ yX3_valueIs cX3_valueIs 3 (some .int)
abbrev wX3_not_2 : List Cond := ws_ yX3_not_2 cX3_not_2 1 (some .int)
abbrev wX3_joins : List Cond := ws_ yX3_joins cX3_joins 3 (some .int)
abbrev wX3_canMake : List Cond := ws_ yX3_canMake cX3_canMake 4 (some .boolean)
abbrev wX3_makes : List Cond := ws_ yX3_makes cX3_makes 7 (some .int)
abbrev wX3_both : List Cond := ws_ yX3_both cX3_both 1 (some .int)
abbrev wX3_either : List Cond := ws_ yX3_either cX3_either 1 (some .int)
abbrev wX3_before : List Cond := ws_ yX3_before cX3_before 1 (some .int)
abbrev wX3_since : List Cond := ws_ yX3_since cX3_since 2 (some .int)
abbrev wX3_binds : List Cond := ws_ yX3_binds cX3_binds 4 (some .int)
abbrev wX3_isBound : List Cond := ws_ yX3_isBound cX3_isBound 1 (some .boolean)
abbrev wX3_once : List Cond := ws_ yX3_once cX3_once 2 (some .int)
abbrev wX3_next : List Cond := ws_ yX3_next cX3_next 1 (some .int)
abbrev wX3_until : List Cond := ws_ yX3_until cX3_until 2 (some .int)
abbrev wX3_soon : List Cond := ws_ yX3_soon cX3_soon 2 (some .int)
abbrev wX3_many : List Cond := ws_ yX3_many cX3_many 3 (some .int)
abbrev wX3_scrap : List Cond := ws_ yX3_scrap cX3_scrap 2 (some .int)
abbrev wX3_tells : List Cond := ws_ yX3_tells cX3_tells 2 (some .int)
abbrev wX3_watch : List Cond := ws_ yX3_watch cX3_watch 5 (some .int)
abbrev wX3_events : List Cond := ws_ yX3_events cX3_events 1 (some .int)
abbrev wX3_dropped : List Cond := ws_ yX3_dropped cX3_dropped 1 (some .int)
abbrev wX3_present : List Cond := ws_ yX3_present cX3_present 1 (some .int)
abbrev wX3_eventAt : List Cond := ws_ yX3_eventAt cX3_eventAt 2 (some .int)
abbrev wX3_isEvent : List Cond := ws_ yX3_isEvent cX3_isEvent 2 (some .boolean)
abbrev wX3_timeOf : List Cond := ws_ yX3_timeOf cX3_timeOf 2 (some .int)
abbrev wX3_isLate : List Cond := ws_ yX3_isLate cX3_isLate 2 (some .boolean)
abbrev wX3_count : List Cond := ws_ yX3_count cX3_count 6 (some .int)
abbrev wX3_isStretch : List Cond := ws_ yX3_isStretch cX3_isStretch 4 (some .boolean)
abbrev wX3_greatest : List Cond := ws_ yX3_greatest cX3_greatest 6 (some .int)
abbrev wX3_greatestByAll : List Cond := ws_ yX3_greatestByAll cX3_greatestByAll 4 (some .int)
abbrev wX3_answer : List Cond := ws_ yX3_answer cX3_answer 3 (some .int)
abbrev wX3_asks : List Cond := ws_ yX3_asks cX3_asks 3 (some .boolean)
abbrev wX3_isMonitor : List Cond := ws_ yX3_isMonitor cX3_isMonitor 2 (some .boolean)
abbrev wX3_answerAnew : List Cond := ws_ yX3_answerAnew cX3_answerAnew 3 (some .int)
abbrev wX3_knownSince : List Cond := ws_ yX3_knownSince cX3_knownSince 3 (some .int)
abbrev wX3_answers : List Cond := ws_ yX3_answers cX3_answers 5 (some .int)
abbrev wX3_isAnswer : List Cond := ws_ yX3_isAnswer cX3_isAnswer 1 (some .boolean)
abbrev wX3_takenBack : List Cond := ws_ yX3_takenBack cX3_takenBack 2 (some .int)
abbrev wX3_back : List Cond := ws_ yX3_back cX3_back 2 (some .int)
abbrev wX3_looksAll : List Cond := ws_ yX3_looksAll cX3_looksAll 7 (some .int)
abbrev wX3_greater : List Cond := ws_ yX3_greater cX3_greater 2 (some .int)
abbrev wX3_looks : List Cond := ws_ yX3_looks cX3_looks 4 (some .int)
abbrev wX3_together : List Cond := ws_ yX3_together cX3_together 2 (some .int)
abbrev wX3_ahead : List Cond := ws_ yX3_ahead cX3_ahead 2 (some .int)
abbrev wX3_parts : List Cond := ws_ yX3_parts cX3_parts 5 (some .int)
abbrev wX3_areSame : List Cond := ws_ yX3_areSame cX3_areSame 5 (some .boolean)
abbrev wX3_orders : List Cond := ws_ yX3_orders cX3_orders 1 (some .int)
abbrev wX3_ordersOf : List Cond := ws_ yX3_ordersOf cX3_ordersOf 5 (some .int)
abbrev wX3_endOf : List Cond := ws_ yX3_endOf cX3_endOf 3 (some .int)
abbrev wX3_ofNode : List Cond := ws_ yX3_ofNode cX3_ofNode 6 (some .int)
abbrev wX3_mixed : List Cond := ws_ yX3_mixed cX3_mixed 9 (some .long)
abbrev wX3_overOrders : List Cond := ws_ yX3_overOrders cX3_overOrders 7 (some .int)
abbrev wX3_laysOrder : List Cond := ws_ yX3_laysOrder cX3_laysOrder 19 none
abbrev wX3_explanation : List Cond := ws_ yX3_explanation cX3_explanation 3 (some .int)
abbrev wX3_tellsLeast : List Cond := ws_ yX3_tellsLeast cX3_tellsLeast 5 (some .int)
abbrev wX3_least : List Cond := ws_ yX3_least cX3_least 12 (some .int)
abbrev wX3_placeOf : List Cond := ws_ yX3_placeOf cX3_placeOf 3 (some .int)
abbrev wX3_isLess : List Cond := ws_ yX3_isLess cX3_isLess 3 (some .boolean)
abbrev wX3_isFalseWith : List Cond := ws_ yX3_isFalseWith cX3_isFalseWith 5 (some .boolean)
abbrev wX3_nextSet : List Cond := ws_ yX3_nextSet cX3_nextSet 3 (some .int)
abbrev wX3_ones : List Cond := ws_ yX3_ones cX3_ones 3 (some .int)
abbrev wX3_explainedBy : List Cond := ws_ yX3_explainedBy cX3_explainedBy 4 (some .int)
abbrev wX3_tellsOne : List Cond := ws_ yX3_tellsOne cX3_tellsOne 8 (some .int)
abbrev wX3_mend : List Cond := ws_ yX3_mend cX3_mend 3 (some .int)
abbrev wX3_mendedBy : List Cond := ws_ yX3_mendedBy cX3_mendedBy 4 (some .int)
abbrev wX4_init : List Cond := ws_ yX4_init cX4_init 8 none
abbrev wX4_isAhead : List Cond := ws_ yX4_isAhead cX4_isAhead 2 (some .boolean)
abbrev wX5_init : List Cond := ws_ yX5_init cX5_init 3 none
abbrev wX5_join : List Cond := ws_ yX5_join cX5_join 2 (some (.object "java/lang/Object"))
abbrev wX5_join_2 : List Cond := ws_ yX5_join_2 cX5_join_2 2 (some (.object "LogGrammar$Stretch"))
abbrev wX6_init : List Cond := ws_ yX6_init cX6_init 3 none
abbrev wX7_isSame : List Cond := ws_ yX7_isSame cX7_isSame 3 (some .boolean)
abbrev wX7_init : List Cond := ws_ yX7_init cX7_init 6 none
abbrev wX7_collect : List Cond := ws_ yX7_collect cX7_collect 2 none
abbrev wX7_looks : List Cond := ws_ yX7_looks cX7_looks 9 (some .int)
abbrev wX8_answerFor : List Cond := ws_ yX8_answerFor cX8_answerFor 8 (some .int)
abbrev wX8_find : List Cond := ws_ yX8_find cX8_find 2 none
abbrev wX8_answersIn : List Cond := ws_ yX8_answersIn cX8_answersIn 4 none
abbrev wX8_meet : List Cond := ws_ yX8_meet cX8_meet 5 none
abbrev wX8_init : List Cond := ws_ yX8_init cX8_init 5 none
abbrev wX9_lay : List Cond := ws_ yX9_lay cX9_lay 5 none
abbrev wX9_fill : List Cond := ws_ yX9_fill cX9_fill 4 none
abbrev wX9_answer : List Cond := ws_ yX9_answer cX9_answer 3 (some .int)
abbrev wX9_at : List Cond := ws_ yX9_at cX9_at 3 (some .int)
abbrev wX9_behind : List Cond := ws_ yX9_behind cX9_behind 7 (some .int)
abbrev wX9_isNear : List Cond := ws_ yX9_isNear cX9_isNear 4 (some .boolean)
abbrev wX9_counted : List Cond := ws_ yX9_counted cX9_counted 7 (some .int)
abbrev wX9_ahead : List Cond := ws_ yX9_ahead cX9_ahead 7 (some .int)
abbrev wX9_mayCome : List Cond := ws_ yX9_mayCome cX9_mayCome 3 (some .boolean)
abbrev wX9_init : List Cond := ws_ yX9_init cX9_init 3 none
theorem hdF_J2_toArray : (yJ2_toArray.name = (⟨"java/util/Collection", "toArray", "()[Ljava/lang/Object;"⟩ : MethodName).name ∧ yJ2_toArray.desc = (⟨"java/util/Collection", "toArray", "()[Ljava/lang/Object;"⟩ : MethodName).desc) ∧ (⟨"java/util/Collection", "toArray", "()[Ljava/lang/Object;"⟩ : MethodName).cls ≠ "java/lang/invoke/MethodHandle" ∧ (⟨"java/util/Collection", "toArray", "()[Ljava/lang/Object;"⟩ : MethodName).cls ≠ "java/lang/invoke/VarHandle" ∧ (parseMethodDescriptor (⟨"java/util/Collection", "toArray", "()[Ljava/lang/Object;"⟩ : MethodName).desc).map (fun d => d.parameters.length) = some 0 := by decide +kernel
abbrev wJ2_init_2 : List Cond := ws_ yJ2_init_2 cJ2_init_2 3 none
set_option maxHeartbeats 4000000 in
theorem mJ2_init_2 {X : zX} {d : Nat} {g : zG} {K : Option Value → zG → Prop} {KX : String → zG → Prop} (hok : zOk X) (a0 : Nat) (a1 : Nat) (h : zCal X d yJ1_init wJ1_init [.ref a0] g (fun r g_1 => r = none ∧ zIs g_1 0 a1 ∧ zCal X d yJ2_toArray wJ2_toArray [.ref a1] g_1 (fun r g_2 => ∃ a_4 : Nat, r = some (.ref a_4) ∧ ∃ n_5 : Nat, zlen X g_2 a_4 n_5 ∧ ∀ v_6 : Int32, v_6 = Int32.ofNat n_5 → ∃ (k_9 : Nat) (fs_7 : List Value), zkc k_9 = 0 ∧ zGo g_2 k_9 a0 = some fs_7 ∧ 2 < fs_7.length ∧ ∀ g_8 : zG, g_8 = zSo g_2 k_9 a0 (fs_7.set 2 (.int v_6)) → (v_6 = 0 → ∃ (k_12 : Nat) (fs_10 : List Value), zkc k_12 = 0 ∧ zGo g_8 k_12 a0 = some fs_10 ∧ 1 < fs_10.length ∧ ∀ g_11 : zG, g_11 = zSo g_8 k_12 a0 (fs_10.set 1 (.ref (ze1 X))) → K none g_11) ∧ (¬ v_6 = 0 → zIs g_8 0 a1 ∧ (¬ (zm1 X) = (zm1 X) → False) ∧ ((zm1 X) = (zm1 X) → ∃ (k_15 : Nat) (fs_13 : List Value), zkc k_15 = 0 ∧ zGo g_8 k_15 a0 = some fs_13 ∧ 1 < fs_13.length ∧ ∀ g_14 : zG, g_14 = zSo g_8 k_15 a0 (fs_13.set 1 (.ref a_4)) → K none g_14))) KX) KX) : zCal X (d + 1) yJ2_init_2 wJ2_init_2 [.ref a0, .ref a1] g K KX := by
  refine z_enter hok pn_J2 (Nat.le_of_ble_eq_true rfl) (fun E C hQ => ?_)
  have C : zC X (d + 1) E RJ2 cJ2_init_2 3 none "<init>" := C
  show GW X E 3 g 0 [(0, .ref a0), (1, .ref a1)] []
  intro H locs ls hR hS hl
  refine lv_aload_n C.x C.b dJ2_init_2_0 rfl (lv_at hl 0 rfl) ?_
  refine z_callI C hR hS hl (n := 0) (y := yJ1_init) (bytes := cJ1_init) (maxL := 1) (As := []) (rest := []) (lw_meth q125) q75 q123 q124 rfl hdS_J1_init (by decide) rfl rfl (Nat.le_of_ble_eq_true rfl) dJ2_init_2_1 h (fun r g_1 hk_ => ?_) (fun x g1 h => z_out C hQ h)
  clear h; obtain ⟨rfl, h⟩ := hk_
  show GW X E 3 g_1 4 [(0, .ref a0), (1, .ref a1)] []
  intro H locs ls hR hS hl
  refine lv_aload_n C.x C.b dJ2_init_2_4 rfl (lv_at hl 1 rfl) ?_
  refine z_callF C hR hS hl (n := 0) (C1 := RJ2) (T := TJ2) (N := 3) (ci := 0) (y := yJ2_toArray) (bytes := cJ2_toArray) (maxL := 1) (rt := (some (.array (.object "java/lang/Object")))) (As := []) (rest := []) (x := ⟨"java/util/Collection", "toArray", "()[Ljava/lang/Object;"⟩) h.1 rfl (lw_F q1198 q1202 q1204 q76 q1206) ⟨C.ok.2.1 _ q1200, C.ok.2.1 _ q1199, C.ok.2.1 _ q1205, C.ok.2.1 _ q1203, C.ok.2.1 _ q1201⟩ hdF_J2_toArray (by decide) rfl rfl (Nat.le_of_ble_eq_true rfl) dJ2_init_2_5 h.2 (fun r g_2 hk_ => ?_) (fun x g1 h => z_out C hQ h)
  clear h; obtain ⟨a_4, rfl, h⟩ := hk_
  show GW X E 3 g_2 10 [(0, .ref a0), (1, .ref a1)] [.ref a_4]
  intro H locs ls hR hS hl
  refine lv_astore_n (lv' := [(2, .ref a_4), (0, .ref a0), (1, .ref a1)]) C.x C.b dJ2_init_2_10 rfl hl (by decide) rfl (fun ls hl => ?_)
  refine lv_aload_n C.x C.b dJ2_init_2_11 rfl (lv_at hl 1 rfl) ?_
  refine lv_aload_n C.x C.b dJ2_init_2_12 rfl (lv_at hl 0 rfl) ?_
  obtain ⟨n_5, q1, h⟩ := h
  refine z_alen C hR hS q1 dJ2_init_2_13 ?_
  have h := h _ rfl
  generalize Int32.ofNat n_5 = v_6 at h ⊢
  refine lv_dup_x1 C.x C.b dJ2_init_2_14 rfl rfl ?_
  obtain ⟨k_9, fs_7, q0, q1, q2, h⟩ := h
  refine z_put C hR hS q1 q0 (ci := 0) rfl in_J2 tyJ2 tyJ2_ok nmJ2 2 (by decide) q135 (fun _ h => h) rfl ⟨rfl, rfl⟩ q2 dJ2_init_2_15 (fun H locs hR hS => ?_)
  have h := h _ rfl
  generalize zSo g_2 k_9 a0 (fs_7.set 2 (.int v_6)) = g_8 at h hR
  obtain ⟨h1, h2⟩ := h
  refine lv_if_eq (tgt := 57) C.x C.b dJ2_init_2_18 (by decide) (fun c => ?_) (fun c => ?_)
  · have h := h1 c; clear h1 h2
    refine lv_aload_n C.x C.b dJ2_init_2_57 rfl (lv_at hl 1 rfl) ?_
    refine z_gets1 C hS q1216 dJ2_init_2_58 ?_
    obtain ⟨k_12, fs_10, q0, q1, q2, h⟩ := h
    refine z_put C hR hS q1 q0 (ci := 0) rfl in_J2 tyJ2 tyJ2_ok nmJ2 1 (by decide) q132 (fun _ h => h) rfl ⟨rfl, rfl⟩ q2 dJ2_init_2_61 (fun H locs hR hS => ?_)
    have h := h _ rfl
    generalize zSo g_8 k_12 a0 (fs_10.set 1 (.ref (ze1 X))) = g_11 at h hR
    exact z_vret C hQ dJ2_init_2_64 h H locs ls hR hS hl
  · have h := h2 c; clear h1 h2
    refine lv_aload_n C.x C.b dJ2_init_2_21 rfl (lv_at hl 2 rfl) ?_
    obtain ⟨q1, h⟩ := h
    refine z_getCI C hR hS hl q1 (Nat.le_of_ble_eq_true rfl) dJ2_init_2_22 ?_
    refine z_ldcA C q1213 dJ2_init_2_27 ?_
    obtain ⟨h1, h2⟩ := h
    refine lv_acmp_ne (rx := (some (zm1 X))) (ry := (some (zm1 X))) (tgt := 40) C.x C.b dJ2_init_2_29 (by decide) (fun c => ?_) (fun c => ?_)
    · have h := h1 (fun z => c (congrArg some z)); clear h1 h2
      exact h.elim
    · have h := h2 (Option.some.inj c); clear h1 h2
      refine lv_aload_n C.x C.b dJ2_init_2_32 rfl (lv_at hl 1 rfl) ?_
      refine lv_aload_n C.x C.b dJ2_init_2_33 rfl (lv_at hl 0 rfl) ?_
      obtain ⟨k_15, fs_13, q0, q1, q2, h⟩ := h
      refine z_put C hR hS q1 q0 (ci := 0) rfl in_J2 tyJ2 tyJ2_ok nmJ2 1 (by decide) q132 (fun _ h => h) rfl ⟨rfl, rfl⟩ q2 dJ2_init_2_34 (fun H locs hR hS => ?_)
      have h := h _ rfl
      generalize zSo g_8 k_15 a0 (fs_13.set 1 (.ref a_4)) = g_14 at h hR
      refine lv_goto (tgt := 64) C.x C.b dJ2_init_2_37 (by decide) ?_
      exact z_vret C hQ dJ2_init_2_64 h H locs ls hR hS hl
set_option maxHeartbeats 4000000 in
theorem mX4_init {X : zX} {d : Nat} {g : zG} {K : Option Value → zG → Prop} {KX : String → zG → Prop} (hok : zOk X) (a0 : Nat) (x1 : Int32) (x2 : Int32) (x3 : Int32) (x4 : Int32) (x5 : Int32) (x6 : Int32) (x7 : Int32) (h : ∃ (fs_1 : List Value), zGo g 4 a0 = some fs_1 ∧ 0 < fs_1.length ∧ ∀ g_2 : zG, g_2 = zSo g 4 a0 (fs_1.set 0 (.int x1)) → ∃ (fs_3 : List Value), zGo g_2 4 a0 = some fs_3 ∧ 1 < fs_3.length ∧ ∀ g_4 : zG, g_4 = zSo g_2 4 a0 (fs_3.set 1 (.int x2)) → ∃ (fs_5 : List Value), zGo g_4 4 a0 = some fs_5 ∧ 2 < fs_5.length ∧ ∀ g_6 : zG, g_6 = zSo g_4 4 a0 (fs_5.set 2 (.int x3)) → ∃ (fs_7 : List Value), zGo g_6 4 a0 = some fs_7 ∧ 3 < fs_7.length ∧ ∀ g_8 : zG, g_8 = zSo g_6 4 a0 (fs_7.set 3 (.int x4)) → ∃ (fs_9 : List Value), zGo g_8 4 a0 = some fs_9 ∧ 4 < fs_9.length ∧ ∀ g_10 : zG, g_10 = zSo g_8 4 a0 (fs_9.set 4 (.int x5)) → ∃ (fs_11 : List Value), zGo g_10 4 a0 = some fs_11 ∧ 5 < fs_11.length ∧ ∀ g_12 : zG, g_12 = zSo g_10 4 a0 (fs_11.set 5 (.int x6)) → ∃ (fs_13 : List Value), zGo g_12 4 a0 = some fs_13 ∧ 6 < fs_13.length ∧ zbo x7 ∧ ∀ g_14 : zG, g_14 = zSo g_12 4 a0 (fs_13.set 6 (.int x7)) → K none g_14) : zCal X (d + 1) yX4_init wX4_init [.ref a0, .int x1, .int x2, .int x3, .int x4, .int x5, .int x6, .int x7] g K KX := by
  refine z_enter hok pn_X4 (Nat.le_of_ble_eq_true rfl) (fun E C hQ => ?_)
  have C : zC X (d + 1) E RX4 cX4_init 8 none "<init>" := C
  show GW X E 8 g 0 [(0, .ref a0), (1, .int x1), (2, .int x2), (3, .int x3), (4, .int x4), (5, .int x5), (6, .int x6), (7, .int x7)] []
  intro H locs ls hR hS hl
  refine lv_aload_n C.x C.b dX4_init_0 rfl (lv_at hl 0 rfl) ?_
  refine z_objInit C hl q781 (Nat.le_of_ble_eq_true rfl) dX4_init_1 ?_
  refine lv_aload_n C.x C.b dX4_init_4 rfl (lv_at hl 0 rfl) ?_
  refine lv_iload_n C.x C.b dX4_init_5 rfl (lv_at hl 1 rfl) ?_
  obtain ⟨fs_1, q1, q2, h⟩ := h
  refine z_putF C hR hS q1 rfl (ci := 4) rfl in_X4 tyX4 tyX4_ok nmX4 0 (by decide) q782 (fun _ h => h) rfl rfl rfl ⟨rfl, rfl⟩ q2 dX4_init_6 (fun H locs hR hS => ?_)
  have h := h _ rfl
  generalize zSo g 4 a0 (fs_1.set 0 (.int x1)) = g_2 at h hR
  refine lv_aload_n C.x C.b dX4_init_9 rfl (lv_at hl 0 rfl) ?_
  refine lv_iload_n C.x C.b dX4_init_10 rfl (lv_at hl 2 rfl) ?_
  obtain ⟨fs_3, q1, q2, h⟩ := h
  refine z_putF C hR hS q1 rfl (ci := 4) rfl in_X4 tyX4 tyX4_ok nmX4 1 (by decide) q785 (fun _ h => h) rfl rfl rfl ⟨rfl, rfl⟩ q2 dX4_init_11 (fun H locs hR hS => ?_)
  have h := h _ rfl
  generalize zSo g_2 4 a0 (fs_3.set 1 (.int x2)) = g_4 at h hR
  refine lv_aload_n C.x C.b dX4_init_14 rfl (lv_at hl 0 rfl) ?_
  refine lv_iload_n C.x C.b dX4_init_15 rfl (lv_at hl 3 rfl) ?_
  obtain ⟨fs_5, q1, q2, h⟩ := h
  refine z_putF C hR hS q1 rfl (ci := 4) rfl in_X4 tyX4 tyX4_ok nmX4 2 (by decide) q789 (fun _ h => h) rfl rfl rfl ⟨rfl, rfl⟩ q2 dX4_init_16 (fun H locs hR hS => ?_)
  have h := h _ rfl
  generalize zSo g_4 4 a0 (fs_5.set 2 (.int x3)) = g_6 at h hR
  refine lv_aload_n C.x C.b dX4_init_19 rfl (lv_at hl 0 rfl) ?_
  refine lv_iload C.x C.b dX4_init_20 (lv_at hl 4 rfl) ?_
  obtain ⟨fs_7, q1, q2, h⟩ := h
  refine z_putF C hR hS q1 rfl (ci := 4) rfl in_X4 tyX4 tyX4_ok nmX4 3 (by decide) q791 (fun _ h => h) rfl rfl rfl ⟨rfl, rfl⟩ q2 dX4_init_22 (fun H locs hR hS => ?_)
  have h := h _ rfl
  generalize zSo g_6 4 a0 (fs_7.set 3 (.int x4)) = g_8 at h hR
  refine lv_aload_n C.x C.b dX4_init_25 rfl (lv_at hl 0 rfl) ?_
  refine lv_iload C.x C.b dX4_init_26 (lv_at hl 5 rfl) ?_
  obtain ⟨fs_9, q1, q2, h⟩ := h
  refine z_putF C hR hS q1 rfl (ci := 4) rfl in_X4 tyX4 tyX4_ok nmX4 4 (by decide) q794 (fun _ h => h) rfl rfl rfl ⟨rfl, rfl⟩ q2 dX4_init_28 (fun H locs hR hS => ?_)
  have h := h _ rfl
  generalize zSo g_8 4 a0 (fs_9.set 4 (.int x5)) = g_10 at h hR
  refine lv_aload_n C.x C.b dX4_init_31 rfl (lv_at hl 0 rfl) ?_
  refine lv_iload C.x C.b dX4_init_32 (lv_at hl 6 rfl) ?_
  obtain ⟨fs_11, q1, q2, h⟩ := h
  refine z_putF C hR hS q1 rfl (ci := 4) rfl in_X4 tyX4 tyX4_ok nmX4 5 (by decide) q798 (fun _ h => h) rfl rfl rfl ⟨rfl, rfl⟩ q2 dX4_init_34 (fun H locs hR hS => ?_)
  have h := h _ rfl
  generalize zSo g_10 4 a0 (fs_11.set 5 (.int x6)) = g_12 at h hR
  refine lv_aload_n C.x C.b dX4_init_37 rfl (lv_at hl 0 rfl) ?_
  refine lv_iload C.x C.b dX4_init_38 (lv_at hl 7 rfl) ?_
  obtain ⟨fs_13, q1, q2, q3, h⟩ := h
  refine z_putF C hR hS q1 rfl (ci := 4) rfl in_X4 tyX4 tyX4_ok nmX4 6 (by decide) q801 (fun _ h => h) rfl rfl rfl (zbo_f q3) q2 dX4_init_40 (fun H locs hR hS => ?_)
  have h := h _ rfl
  generalize zSo g_12 4 a0 (fs_13.set 6 (.int x7)) = g_14 at h hR
  exact z_vret C hQ dX4_init_43 h H locs ls hR hS hl
set_option maxHeartbeats 4000000 in
theorem mX4_isAhead {X : zX} {d : Nat} {g : zG} {K : Option Value → zG → Prop} {KX : String → zG → Prop} (hok : zOk X) (a0 : Nat) (a1 : Nat) (h : ∃ (fs_1 : List Value) (v_2 : Int32), zGo g 4 a0 = some fs_1 ∧ fs_1[1]? = some (.int v_2) ∧ ∃ (fs_3 : List Value) (v_4 : Int32), zGo g 4 a1 = some fs_3 ∧ fs_3[1]? = some (.int v_4) ∧ (v_2 = v_4 → ∃ (fs_5 : List Value) (v_6 : Int32), zGo g 4 a0 = some fs_5 ∧ fs_5[2]? = some (.int v_6) ∧ ∃ (fs_7 : List Value) (v_8 : Int32), zGo g 4 a1 = some fs_7 ∧ fs_7[2]? = some (.int v_8) ∧ (v_6 = v_8 → ∃ (fs_9 : List Value) (v_10 : Int32), zGo g 4 a0 = some fs_9 ∧ fs_9[0]? = some (.int v_10) ∧ ∃ (fs_11 : List Value) (v_12 : Int32), zGo g 4 a1 = some fs_11 ∧ fs_11[0]? = some (.int v_12) ∧ (v_12 ≤ v_10 → K (some (.int 0)) g) ∧ (¬ v_12 ≤ v_10 → K (some (.int 1)) g)) ∧ (¬ v_6 = v_8 → ∃ (fs_13 : List Value) (v_14 : Int32), zGo g 4 a0 = some fs_13 ∧ fs_13[2]? = some (.int v_14) ∧ ∃ (fs_15 : List Value) (v_16 : Int32), zGo g 4 a1 = some fs_15 ∧ fs_15[2]? = some (.int v_16) ∧ (v_16 ≤ v_14 → K (some (.int 0)) g) ∧ (¬ v_16 ≤ v_14 → K (some (.int 1)) g))) ∧ (¬ v_2 = v_4 → ∃ (fs_17 : List Value) (v_18 : Int32), zGo g 4 a0 = some fs_17 ∧ fs_17[1]? = some (.int v_18) ∧ ∃ (fs_19 : List Value) (v_20 : Int32), zGo g 4 a1 = some fs_19 ∧ fs_19[1]? = some (.int v_20) ∧ (v_20 ≤ v_18 → K (some (.int 0)) g) ∧ (¬ v_20 ≤ v_18 → K (some (.int 1)) g))) : zCal X d yX4_isAhead wX4_isAhead [.ref a0, .ref a1] g K KX := by
  refine z_enter hok pn_X4 (Nat.le_of_ble_eq_true rfl) (fun E C hQ => ?_)
  have C : zC X d E RX4 cX4_isAhead 2 (some .boolean) "isAhead" := C
  show GW X E 2 g 0 [(0, .ref a0), (1, .ref a1)] []
  intro H locs ls hR hS hl
  refine lv_aload_n C.x C.b dX4_isAhead_0 rfl (lv_at hl 0 rfl) ?_
  obtain ⟨fs_1, v_2, q1, q2, h⟩ := h
  refine z_get C hR q1 rfl (ci := 4) rfl in_X4 1 (by decide) q785 (fun _ h => h) q2 dX4_isAhead_1 ?_
  refine lv_aload_n C.x C.b dX4_isAhead_4 rfl (lv_at hl 1 rfl) ?_
  obtain ⟨fs_3, v_4, q1, q2, h⟩ := h
  refine z_get C hR q1 rfl (ci := 4) rfl in_X4 1 (by decide) q785 (fun _ h => h) q2 dX4_isAhead_5 ?_
  obtain ⟨h1, h2⟩ := h
  refine lv_icmp_eq (tgt := 30) C.x C.b dX4_isAhead_8 (by decide) (fun c => ?_) (fun c => ?_)
  · have h := h1 c; clear h1 h2
    refine lv_aload_n C.x C.b dX4_isAhead_30 rfl (lv_at hl 0 rfl) ?_
    obtain ⟨fs_5, v_6, q1, q2, h⟩ := h
    refine z_get C hR q1 rfl (ci := 4) rfl in_X4 2 (by decide) q789 (fun _ h => h) q2 dX4_isAhead_31 ?_
    refine lv_aload_n C.x C.b dX4_isAhead_34 rfl (lv_at hl 1 rfl) ?_
    obtain ⟨fs_7, v_8, q1, q2, h⟩ := h
    refine z_get C hR q1 rfl (ci := 4) rfl in_X4 2 (by decide) q789 (fun _ h => h) q2 dX4_isAhead_35 ?_
    obtain ⟨h1, h2⟩ := h
    refine lv_icmp_eq (tgt := 60) C.x C.b dX4_isAhead_38 (by decide) (fun c => ?_) (fun c => ?_)
    · have h := h1 c; clear h1 h2
      refine lv_aload_n C.x C.b dX4_isAhead_60 rfl (lv_at hl 0 rfl) ?_
      obtain ⟨fs_9, v_10, q1, q2, h⟩ := h
      refine z_get C hR q1 rfl (ci := 4) rfl in_X4 0 (by decide) q782 (fun _ h => h) q2 dX4_isAhead_61 ?_
      refine lv_aload_n C.x C.b dX4_isAhead_64 rfl (lv_at hl 1 rfl) ?_
      obtain ⟨fs_11, v_12, q1, q2, h⟩ := h
      refine z_get C hR q1 rfl (ci := 4) rfl in_X4 0 (by decide) q782 (fun _ h => h) q2 dX4_isAhead_65 ?_
      obtain ⟨h1, h2⟩ := h
      refine lv_icmp_ge (tgt := 75) C.x C.b dX4_isAhead_68 (by decide) (fun c => ?_) (fun c => ?_)
      · have h := h1 c; clear h1 h2
        refine lv_iconst (v := 0) C.x C.b dX4_isAhead_75 (by decide) ?_
        exact z_zret C hQ rfl dX4_isAhead_76 h H locs ls hR hS hl
      · have h := h2 c; clear h1 h2
        refine lv_iconst (v := 1) C.x C.b dX4_isAhead_71 (by decide) ?_
        refine lv_goto (tgt := 76) C.x C.b dX4_isAhead_72 (by decide) ?_
        exact z_zret C hQ rfl dX4_isAhead_76 h H locs ls hR hS hl
    · have h := h2 c; clear h1 h2
      refine lv_aload_n C.x C.b dX4_isAhead_41 rfl (lv_at hl 0 rfl) ?_
      obtain ⟨fs_13, v_14, q1, q2, h⟩ := h
      refine z_get C hR q1 rfl (ci := 4) rfl in_X4 2 (by decide) q789 (fun _ h => h) q2 dX4_isAhead_42 ?_
      refine lv_aload_n C.x C.b dX4_isAhead_45 rfl (lv_at hl 1 rfl) ?_
      obtain ⟨fs_15, v_16, q1, q2, h⟩ := h
      refine z_get C hR q1 rfl (ci := 4) rfl in_X4 2 (by decide) q789 (fun _ h => h) q2 dX4_isAhead_46 ?_
      obtain ⟨h1, h2⟩ := h
      refine lv_icmp_ge (tgt := 56) C.x C.b dX4_isAhead_49 (by decide) (fun c => ?_) (fun c => ?_)
      · have h := h1 c; clear h1 h2
        refine lv_iconst (v := 0) C.x C.b dX4_isAhead_56 (by decide) ?_
        refine lv_goto (tgt := 76) C.x C.b dX4_isAhead_57 (by decide) ?_
        exact z_zret C hQ rfl dX4_isAhead_76 h H locs ls hR hS hl
      · have h := h2 c; clear h1 h2
        refine lv_iconst (v := 1) C.x C.b dX4_isAhead_52 (by decide) ?_
        refine lv_goto (tgt := 76) C.x C.b dX4_isAhead_53 (by decide) ?_
        exact z_zret C hQ rfl dX4_isAhead_76 h H locs ls hR hS hl
  · have h := h2 c; clear h1 h2
    refine lv_aload_n C.x C.b dX4_isAhead_11 rfl (lv_at hl 0 rfl) ?_
    obtain ⟨fs_17, v_18, q1, q2, h⟩ := h
    refine z_get C hR q1 rfl (ci := 4) rfl in_X4 1 (by decide) q785 (fun _ h => h) q2 dX4_isAhead_12 ?_
    refine lv_aload_n C.x C.b dX4_isAhead_15 rfl (lv_at hl 1 rfl) ?_
    obtain ⟨fs_19, v_20, q1, q2, h⟩ := h
    refine z_get C hR q1 rfl (ci := 4) rfl in_X4 1 (by decide) q785 (fun _ h => h) q2 dX4_isAhead_16 ?_
    obtain ⟨h1, h2⟩ := h
    refine lv_icmp_ge (tgt := 26) C.x C.b dX4_isAhead_19 (by decide) (fun c => ?_) (fun c => ?_)
    · have h := h1 c; clear h1 h2
      refine lv_iconst (v := 0) C.x C.b dX4_isAhead_26 (by decide) ?_
      refine lv_goto (tgt := 76) C.x C.b dX4_isAhead_27 (by decide) ?_
      exact z_zret C hQ rfl dX4_isAhead_76 h H locs ls hR hS hl
    · have h := h2 c; clear h1 h2
      refine lv_iconst (v := 1) C.x C.b dX4_isAhead_22 (by decide) ?_
      refine lv_goto (tgt := 76) C.x C.b dX4_isAhead_23 (by decide) ?_
      exact z_zret C hQ rfl dX4_isAhead_76 h H locs ls hR hS hl
set_option maxHeartbeats 4000000 in
theorem mX5_init {X : zX} {d : Nat} {g : zG} {K : Option Value → zG → Prop} {KX : String → zG → Prop} (hok : zOk X) (a0 : Nat) (x1 : Int32) (x2 : Int32) (h : ∃ (fs_1 : List Value), zGo g 5 a0 = some fs_1 ∧ 0 < fs_1.length ∧ ∀ g_2 : zG, g_2 = zSo g 5 a0 (fs_1.set 0 (.int x1)) → ∃ (fs_3 : List Value), zGo g_2 5 a0 = some fs_3 ∧ 1 < fs_3.length ∧ ∀ g_4 : zG, g_4 = zSo g_2 5 a0 (fs_3.set 1 (.int x2)) → K none g_4) : zCal X (d + 1) yX5_init wX5_init [.ref a0, .int x1, .int x2] g K KX := by
  refine z_enter hok pn_X5 (Nat.le_of_ble_eq_true rfl) (fun E C hQ => ?_)
  have C : zC X (d + 1) E RX5 cX5_init 3 none "<init>" := C
  show GW X E 3 g 0 [(0, .ref a0), (1, .int x1), (2, .int x2)] []
  intro H locs ls hR hS hl
  refine lv_aload_n C.x C.b dX5_init_0 rfl (lv_at hl 0 rfl) ?_
  refine z_objInit C hl q1078 (Nat.le_of_ble_eq_true rfl) dX5_init_1 ?_
  refine lv_aload_n C.x C.b dX5_init_4 rfl (lv_at hl 0 rfl) ?_
  refine lv_iload_n C.x C.b dX5_init_5 rfl (lv_at hl 1 rfl) ?_
  obtain ⟨fs_1, q1, q2, h⟩ := h
  refine z_putF C hR hS q1 rfl (ci := 5) rfl in_X5 tyX5 tyX5_ok nmX5 0 (by decide) q1079 (fun _ h => h) rfl rfl rfl ⟨rfl, rfl⟩ q2 dX5_init_6 (fun H locs hR hS => ?_)
  have h := h _ rfl
  generalize zSo g 5 a0 (fs_1.set 0 (.int x1)) = g_2 at h hR
  refine lv_aload_n C.x C.b dX5_init_9 rfl (lv_at hl 0 rfl) ?_
  refine lv_iload_n C.x C.b dX5_init_10 rfl (lv_at hl 2 rfl) ?_
  obtain ⟨fs_3, q1, q2, h⟩ := h
  refine z_putF C hR hS q1 rfl (ci := 5) rfl in_X5 tyX5 tyX5_ok nmX5 1 (by decide) q1081 (fun _ h => h) rfl rfl rfl ⟨rfl, rfl⟩ q2 dX5_init_11 (fun H locs hR hS => ?_)
  have h := h _ rfl
  generalize zSo g_2 5 a0 (fs_3.set 1 (.int x2)) = g_4 at h hR
  exact z_vret C hQ dX5_init_14 h H locs ls hR hS hl
theorem hdS_X5_init : yX5_init.cls ≠ "java/lang/invoke/MethodHandle" ∧ yX5_init.cls ≠ "java/lang/invoke/VarHandle" ∧ (parseMethodDescriptor yX5_init.desc).map (fun d => d.parameters.length) = some 2 := by decide +kernel
set_option maxHeartbeats 4000000 in
theorem mX5_join_2 {X : zX} {d : Nat} {g : zG} {K : Option Value → zG → Prop} {KX : String → zG → Prop} (hok : zOk X) (a0 : Nat) (a1 : Nat) (h : zGz g + 1 + 2 ≤ zz X ∧ ∀ a_1 : Nat, zFr g a_1 → ∀ g_2 : zG, g_2 = zSz (zSo g 5 a_1 [.int 0, .int 0]) (zGz g + 1 + 2) → ∃ (fs_3 : List Value) (v_4 : Int32), zGo g_2 5 a0 = some fs_3 ∧ fs_3[0]? = some (.int v_4) ∧ ∃ (fs_5 : List Value) (v_6 : Int32), zGo g_2 5 a1 = some fs_5 ∧ fs_5[0]? = some (.int v_6) ∧ ∃ (fs_7 : List Value) (v_8 : Int32), zGo g_2 5 a0 = some fs_7 ∧ fs_7[1]? = some (.int v_8) ∧ ∃ (fs_9 : List Value) (v_10 : Int32), zGo g_2 5 a1 = some fs_9 ∧ fs_9[1]? = some (.int v_10) ∧ zCal X d yJ4_max wJ4_max [.int v_8, .int v_10] g_2 (fun r g_11 => ∃ v_12 : Int32, r = some (.int v_12) ∧ zCal X d yX5_init wX5_init [.ref a_1, .int (v_4 + v_6), .int v_12] g_11 (fun r g_13 => r = none ∧ K (some (.ref a_1)) g_13) KX) KX) : zCal X (d + 1) yX5_join_2 wX5_join_2 [.ref a0, .ref a1] g K KX := by
  refine z_enter hok pn_X5 (Nat.le_of_ble_eq_true rfl) (fun E C hQ => ?_)
  have C : zC X (d + 1) E RX5 cX5_join_2 2 (some (.object "LogGrammar$Stretch")) "join" := C
  show GW X E 2 g 0 [(0, .ref a0), (1, .ref a1)] []
  intro H locs ls hR hS hl
  obtain ⟨q1, h⟩ := h
  refine z_new C hR hS 5 rfl (ci := 5) rfl in_X5 tyX5 tyX5_ok q1102 q1074 q100 (fs := [.int 0, .int 0]) zdf_X5 q1 dX5_join_2_0 (fun a_1 hf H hR hS => ?_)
  have h := h a_1 hf _ rfl
  generalize zSz (zSo g 5 a_1 [.int 0, .int 0]) (zGz g + 1 + 2) = g_2 at h hR
  refine lv_dup C.x C.b dX5_join_2_3 rfl ?_
  refine lv_aload_n C.x C.b dX5_join_2_4 rfl (lv_at hl 0 rfl) ?_
  obtain ⟨fs_3, v_4, q1, q2, h⟩ := h
  refine z_get C hR q1 rfl (ci := 5) rfl in_X5 0 (by decide) q1079 (fun _ h => h) q2 dX5_join_2_5 ?_
  refine lv_aload_n C.x C.b dX5_join_2_8 rfl (lv_at hl 1 rfl) ?_
  obtain ⟨fs_5, v_6, q1, q2, h⟩ := h
  refine z_get C hR q1 rfl (ci := 5) rfl in_X5 0 (by decide) q1079 (fun _ h => h) q2 dX5_join_2_9 ?_
  refine lv_iadd C.x C.b dX5_join_2_12 ?_
  refine lv_aload_n C.x C.b dX5_join_2_13 rfl (lv_at hl 0 rfl) ?_
  obtain ⟨fs_7, v_8, q1, q2, h⟩ := h
  refine z_get C hR q1 rfl (ci := 5) rfl in_X5 1 (by decide) q1081 (fun _ h => h) q2 dX5_join_2_14 ?_
  refine lv_aload_n C.x C.b dX5_join_2_17 rfl (lv_at hl 1 rfl) ?_
  obtain ⟨fs_9, v_10, q1, q2, h⟩ := h
  refine z_get C hR q1 rfl (ci := 5) rfl in_X5 1 (by decide) q1081 (fun _ h => h) q2 dX5_join_2_18 ?_
  refine z_callS C hR hS hl (n := 2) (y := yJ4_max) (bytes := cJ4_max) (maxL := 2) (rt := (some .int)) (As := [.int v_8, .int v_10]) (rest := [.int (v_4 + v_6), .ref a_1, .ref a_1]) (lw_S q1107 q196 q79 q197) hdS_J4_max (by decide) rfl rfl (Nat.le_of_ble_eq_true rfl) dX5_join_2_21 h (fun r g_11 hk_ => ?_) (fun x g1 h => z_out C hQ h)
  clear h; obtain ⟨v_12, rfl, h⟩ := hk_
  show GW X E 2 g_11 24 [(0, .ref a0), (1, .ref a1)] [.int v_12, .int (v_4 + v_6), .ref a_1, .ref a_1]
  intro H locs ls hR hS hl
  refine z_callI C hR hS hl (n := 2) (y := yX5_init) (bytes := cX5_init) (maxL := 3) (As := [.int (v_4 + v_6), .int v_12]) (rest := [.ref a_1]) (lw_meth q1077) q100 q1108 q1076 rfl hdS_X5_init (by decide) rfl rfl (Nat.le_of_ble_eq_true rfl) dX5_join_2_24 h (fun r g_13 hk_ => ?_) (fun x g1 h => z_out C hQ h)
  clear h; obtain ⟨rfl, h⟩ := hk_
  show GW X E 2 g_13 27 [(0, .ref a0), (1, .ref a1)] [.ref a_1]
  intro H locs ls hR hS hl
  exact z_aret C hQ (Or.inl ⟨_, rfl⟩) (Or.inr ⟨_, rfl⟩) dX5_join_2_27 h H locs ls hR hS hl
theorem hdV_X5_join_2 : yX5_join_2.cls = RX5 ∧ yX5_join_2.cls ≠ "java/lang/invoke/MethodHandle" ∧ yX5_join_2.cls ≠ "java/lang/invoke/VarHandle" ∧ (parseMethodDescriptor yX5_join_2.desc).map (fun d => d.parameters.length) = some 1 := by decide +kernel
set_option maxHeartbeats 4000000 in
theorem mX5_join {X : zX} {d : Nat} {g : zG} {K : Option Value → zG → Prop} {KX : String → zG → Prop} (hok : zOk X) (a0 : Nat) (a1 : Nat) (h : zIs g 5 a1 ∧ zIs g 5 a0 ∧ zCal X d yX5_join_2 wX5_join_2 [.ref a0, .ref a1] g (fun r g_1 => ∃ a_3 : Nat, r = some (.ref a_3) ∧ K (some (.ref a_3)) g_1) KX) : zCal X (d + 1) yX5_join wX5_join [.ref a0, .ref a1] g K KX := by
  refine z_enter hok pn_X5 (Nat.le_of_ble_eq_true rfl) (fun E C hQ => ?_)
  have C : zC X (d + 1) E RX5 cX5_join 2 (some (.object "java/lang/Object")) "join" := C
  show GW X E 2 g 0 [(0, .ref a0), (1, .ref a1)] []
  intro H locs ls hR hS hl
  refine lv_aload_n C.x C.b dX5_join_0 rfl (lv_at hl 0 rfl) ?_
  refine lv_aload_n C.x C.b dX5_join_1 rfl (lv_at hl 1 rfl) ?_
  refine z_castS C hR (ci := 5) (C1 := RX5) (T := TX5) (N := 2) h.1 rfl q1102 dX5_join_2 ?_
  have h := h.2
  refine z_callV C hR hS hl (n := 1) (C1 := RX5) (T := TX5) (N := 2) (ci := 5) (y := yX5_join_2) (bytes := cX5_join_2) (maxL := 2) (rt := (some (.object "LogGrammar$Stretch"))) (As := [.ref a1]) (rest := []) h.1 rfl (lw_V q1103 q1104 q1105 q100 q1106) hdV_X5_join_2 (by decide) rfl rfl (Nat.le_of_ble_eq_true rfl) dX5_join_5 h.2 (fun r g_1 hk_ => ?_) (fun x g1 h => z_out C hQ h)
  clear h; obtain ⟨a_3, rfl, h⟩ := hk_
  show GW X E 2 g_1 8 [(0, .ref a0), (1, .ref a1)] [.ref a_3]
  intro H locs ls hR hS hl
  exact z_aret C hQ (Or.inl ⟨_, rfl⟩) (Or.inr ⟨_, rfl⟩) dX5_join_8 h H locs ls hR hS hl
set_option maxHeartbeats 4000000 in
theorem mX6_init {X : zX} {d : Nat} {g : zG} {K : Option Value → zG → Prop} {KX : String → zG → Prop} (hok : zOk X) (a0 : Nat) (a1 : Nat) (a2 : Nat) (h : ∃ (fs_1 : List Value), zGo g 6 a0 = some fs_1 ∧ 0 < fs_1.length ∧ ∀ g_2 : zG, g_2 = zSo g 6 a0 (fs_1.set 0 (.ref a1)) → ∃ (fs_3 : List Value), zGo g_2 6 a0 = some fs_3 ∧ 1 < fs_3.length ∧ ∀ g_4 : zG, g_4 = zSo g_2 6 a0 (fs_3.set 1 (.ref a2)) → K none g_4) : zCal X (d + 1) yX6_init wX6_init [.ref a0, .ref a1, .ref a2] g K KX := by
  refine z_enter hok pn_X6 (Nat.le_of_ble_eq_true rfl) (fun E C hQ => ?_)
  have C : zC X (d + 1) E RX6 cX6_init 3 none "<init>" := C
  show GW X E 3 g 0 [(0, .ref a0), (1, .ref a1), (2, .ref a2)] []
  intro H locs ls hR hS hl
  refine lv_aload_n C.x C.b dX6_init_0 rfl (lv_at hl 0 rfl) ?_
  refine z_objInit C hl q1159 (Nat.le_of_ble_eq_true rfl) dX6_init_1 ?_
  refine lv_aload_n C.x C.b dX6_init_4 rfl (lv_at hl 0 rfl) ?_
  refine lv_aload_n C.x C.b dX6_init_5 rfl (lv_at hl 1 rfl) ?_
  obtain ⟨fs_1, q1, q2, h⟩ := h
  refine z_putF C hR hS q1 rfl (ci := 6) rfl in_X6 tyX6 tyX6_ok nmX6 0 (by decide) q1160 (fun _ h => h) rfl rfl rfl ⟨rfl, rfl⟩ q2 dX6_init_6 (fun H locs hR hS => ?_)
  have h := h _ rfl
  generalize zSo g 6 a0 (fs_1.set 0 (.ref a1)) = g_2 at h hR
  refine lv_aload_n C.x C.b dX6_init_9 rfl (lv_at hl 0 rfl) ?_
  refine lv_aload_n C.x C.b dX6_init_10 rfl (lv_at hl 2 rfl) ?_
  obtain ⟨fs_3, q1, q2, h⟩ := h
  refine z_putF C hR hS q1 rfl (ci := 6) rfl in_X6 tyX6 tyX6_ok nmX6 1 (by decide) q1163 (fun _ h => h) rfl rfl rfl ⟨rfl, rfl⟩ q2 dX6_init_11 (fun H locs hR hS => ?_)
  have h := h _ rfl
  generalize zSo g_2 6 a0 (fs_3.set 1 (.ref a2)) = g_4 at h hR
  exact z_vret C hQ dX6_init_14 h H locs ls hR hS hl
set_option maxHeartbeats 4000000 in
theorem mX2_init {X : zX} {d : Nat} {g : zG} {K : Option Value → zG → Prop} {KX : String → zG → Prop} (hok : zOk X) (a0 : Nat) (x1 : Int32) (x2 : Int32) (h : ∃ (fs_1 : List Value), zGo g 2 a0 = some fs_1 ∧ 0 < fs_1.length ∧ ∀ g_2 : zG, g_2 = zSo g 2 a0 (fs_1.set 0 (.int x1)) → ∃ (fs_3 : List Value), zGo g_2 2 a0 = some fs_3 ∧ 1 < fs_3.length ∧ ∀ g_4 : zG, g_4 = zSo g_2 2 a0 (fs_3.set 1 (.int x2)) → K none g_4) : zCal X (d + 1) yX2_init wX2_init [.ref a0, .int x1, .int x2] g K KX := by
  refine z_enter hok pn_X2 (Nat.le_of_ble_eq_true rfl) (fun E C hQ => ?_)
  have C : zC X (d + 1) E RX2 cX2_init 3 none "<init>" := C
  show GW X E 3 g 0 [(0, .ref a0), (1, .int x1), (2, .int x2)] []
  intro H locs ls hR hS hl
  refine lv_aload_n C.x C.b dX2_init_0 rfl (lv_at hl 0 rfl) ?_
  refine z_objInit C hl q153 (Nat.le_of_ble_eq_true rfl) dX2_init_1 ?_
  refine lv_aload_n C.x C.b dX2_init_4 rfl (lv_at hl 0 rfl) ?_
  refine lv_iload_n C.x C.b dX2_init_5 rfl (lv_at hl 1 rfl) ?_
  obtain ⟨fs_1, q1, q2, h⟩ := h
  refine z_putF C hR hS q1 rfl (ci := 2) rfl in_X2 tyX2 tyX2_ok nmX2 0 (by decide) q154 (fun _ h => h) rfl rfl rfl ⟨rfl, rfl⟩ q2 dX2_init_6 (fun H locs hR hS => ?_)
  have h := h _ rfl
  generalize zSo g 2 a0 (fs_1.set 0 (.int x1)) = g_2 at h hR
  refine lv_aload_n C.x C.b dX2_init_9 rfl (lv_at hl 0 rfl) ?_
  refine lv_iload_n C.x C.b dX2_init_10 rfl (lv_at hl 2 rfl) ?_
  obtain ⟨fs_3, q1, q2, h⟩ := h
  refine z_putF C hR hS q1 rfl (ci := 2) rfl in_X2 tyX2 tyX2_ok nmX2 1 (by decide) q155 (fun _ h => h) rfl rfl rfl ⟨rfl, rfl⟩ q2 dX2_init_11 (fun H locs hR hS => ?_)
  have h := h _ rfl
  generalize zSo g_2 2 a0 (fs_3.set 1 (.int x2)) = g_4 at h hR
  exact z_vret C hQ dX2_init_14 h H locs ls hR hS hl
theorem hdF_X5_join : (yX5_join.name = (⟨"LogGrammar$Summary", "join", "(Ljava/lang/Object;)Ljava/lang/Object;"⟩ : MethodName).name ∧ yX5_join.desc = (⟨"LogGrammar$Summary", "join", "(Ljava/lang/Object;)Ljava/lang/Object;"⟩ : MethodName).desc) ∧ (⟨"LogGrammar$Summary", "join", "(Ljava/lang/Object;)Ljava/lang/Object;"⟩ : MethodName).cls ≠ "java/lang/invoke/MethodHandle" ∧ (⟨"LogGrammar$Summary", "join", "(Ljava/lang/Object;)Ljava/lang/Object;"⟩ : MethodName).cls ≠ "java/lang/invoke/VarHandle" ∧ (parseMethodDescriptor (⟨"LogGrammar$Summary", "join", "(Ljava/lang/Object;)Ljava/lang/Object;"⟩ : MethodName).desc).map (fun d => d.parameters.length) = some 1 := by decide +kernel
theorem hdS_X2_init : yX2_init.cls ≠ "java/lang/invoke/MethodHandle" ∧ yX2_init.cls ≠ "java/lang/invoke/VarHandle" ∧ (parseMethodDescriptor yX2_init.desc).map (fun d => d.parameters.length) = some 2 := by decide +kernel
theorem hdV_X2_add : yX2_add.cls = RX2 ∧ yX2_add.cls ≠ "java/lang/invoke/MethodHandle" ∧ yX2_add.cls ≠ "java/lang/invoke/VarHandle" ∧ (parseMethodDescriptor yX2_add.desc).map (fun d => d.parameters.length) = some 2 := by decide +kernel
set_option maxHeartbeats 4000000 in
theorem bX2_add_25 {X : zX} {d : Nat} {E : zM} {K : Option Value → zG → Prop} {KX : String → zG → Prop} (C : zC X (d + 1) E RX2 cX2_add 4 none "add") (hQ : zQ X E K KX) (g : zG) (a0 : Nat) (x1 : Int32) (a2 : Nat) (b0 : Nat) (b1 : Nat) (h : ∃ (fs_1 : List Value), zGo g 2 b0 = some fs_1 ∧ 2 < fs_1.length ∧ ∀ g_2 : zG, g_2 = zSo g 2 b0 (fs_1.set 2 (.ref b1)) → ∃ (fs_3 : List Value) (v_4 : Int32), zGo g_2 2 a0 = some fs_3 ∧ fs_3[0]? = some (.int v_4) ∧ ∃ (fs_5 : List Value) (v_6 : Int32), zGo g_2 2 a0 = some fs_5 ∧ fs_5[1]? = some (.int v_6) ∧ ∃ (fs_7 : List Value) (v_8 : Int32), zGo g_2 2 a0 = some fs_7 ∧ fs_7[0]? = some (.int v_8) ∧ ∃ (fs_9 : List Value) (v_10 : Int32), zGo g_2 2 a0 = some fs_9 ∧ fs_9[1]? = some (.int v_10) ∧ (v_10 ≤ v_8 → GW X E 4 g_2 98 [(0, .ref a0), (1, .int x1), (2, .ref a2), (3, .int ((v_4 + v_6) / 2))] []) ∧ (¬ v_10 ≤ v_8 → (((v_4 + v_6) / 2) < x1 → GW X E 4 g_2 98 [(0, .ref a0), (1, .int x1), (2, .ref a2), (3, .int ((v_4 + v_6) / 2))] []) ∧ (¬ ((v_4 + v_6) / 2) < x1 → ∃ (fs_11 : List Value) (r_12 : Option Nat), zGo g_2 2 a0 = some fs_11 ∧ fs_11[3]? = some (va_rf r_12) ∧ (r_12 = none → zGz g_2 + 1 + 5 ≤ zz X ∧ ∀ a_14 : Nat, zFr g_2 a_14 → ∀ g_15 : zG, g_15 = zSz (zSo g_2 2 a_14 [.int 0, .int 0, .null, .null, .null]) (zGz g_2 + 1 + 5) → ∃ (fs_16 : List Value) (v_17 : Int32), zGo g_15 2 a0 = some fs_16 ∧ fs_16[0]? = some (.int v_17) ∧ zCal X d yX2_init wX2_init [.ref a_14, .int v_17, .int ((v_4 + v_6) / 2)] g_15 (fun r g_18 => r = none ∧ ∃ (fs_19 : List Value), zGo g_18 2 a0 = some fs_19 ∧ 3 < fs_19.length ∧ ∀ g_20 : zG, g_20 = zSo g_18 2 a0 (fs_19.set 3 (.ref a_14)) → ∃ (fs_21 : List Value) (r_22 : Option Nat), zGo g_20 2 a0 = some fs_21 ∧ fs_21[3]? = some (va_rf r_22) ∧ ∃ a_23 : Nat, r_22 = some a_23 ∧ zIs g_20 2 a_23 ∧ zCal X d yX2_add wX2_add [.ref a_23, .int x1, .ref a2] g_20 (fun r g_24 => r = none ∧ K none g_24) KX) KX) ∧ (∀ a_13 : Nat, r_12 = some a_13 → ∃ (fs_25 : List Value) (r_26 : Option Nat), zGo g_2 2 a0 = some fs_25 ∧ fs_25[3]? = some (va_rf r_26) ∧ ∃ (fs_27 : List Value), zGo g_2 2 a0 = some fs_27 ∧ 3 < fs_27.length ∧ ∀ g_28 : zG, g_28 = zSo g_2 2 a0 (fs_27.set 3 (va_rf r_26)) → ∃ (fs_29 : List Value) (r_30 : Option Nat), zGo g_28 2 a0 = some fs_29 ∧ fs_29[3]? = some (va_rf r_30) ∧ ∃ a_31 : Nat, r_30 = some a_31 ∧ zIs g_28 2 a_31 ∧ zCal X d yX2_add wX2_add [.ref a_31, .int x1, .ref a2] g_28 (fun r g_32 => r = none ∧ K none g_32) KX)))) : GW X E 4 g 25 [(0, .ref a0), (1, .int x1), (2, .ref a2)] [.ref b1, .ref b0] := by
  intro H locs ls hR hS hl
  obtain ⟨fs_1, q1, q2, h⟩ := h
  refine z_put C hR hS q1 rfl (ci := 2) rfl in_X2 tyX2 tyX2_ok nmX2 2 (by decide) q156 (fun _ h => h) rfl ⟨rfl, rfl⟩ q2 dX2_add_25 (fun H locs hR hS => ?_)
  have h := h _ rfl
  generalize zSo g 2 b0 (fs_1.set 2 (.ref b1)) = g_2 at h hR
  refine lv_aload_n C.x C.b dX2_add_28 rfl (lv_at hl 0 rfl) ?_
  obtain ⟨fs_3, v_4, q1, q2, h⟩ := h
  refine z_get C hR q1 rfl (ci := 2) rfl in_X2 0 (by decide) q154 (fun _ h => h) q2 dX2_add_29 ?_
  refine lv_aload_n C.x C.b dX2_add_32 rfl (lv_at hl 0 rfl) ?_
  obtain ⟨fs_5, v_6, q1, q2, h⟩ := h
  refine z_get C hR q1 rfl (ci := 2) rfl in_X2 1 (by decide) q155 (fun _ h => h) q2 dX2_add_33 ?_
  refine lv_iadd C.x C.b dX2_add_36 ?_
  refine lv_iconst (v := 2) C.x C.b dX2_add_37 (by decide) ?_
  refine lv_idiv C.x C.b dX2_add_38 (by decide) ?_
  refine lv_istore_n (lv' := [(3, .int ((v_4 + v_6) / 2)), (0, .ref a0), (1, .int x1), (2, .ref a2)]) C.x C.b dX2_add_39 rfl hl (by decide) rfl (fun ls hl => ?_)
  refine lv_aload_n C.x C.b dX2_add_40 rfl (lv_at hl 1 rfl) ?_
  obtain ⟨fs_7, v_8, q1, q2, h⟩ := h
  refine z_get C hR q1 rfl (ci := 2) rfl in_X2 0 (by decide) q154 (fun _ h => h) q2 dX2_add_41 ?_
  refine lv_aload_n C.x C.b dX2_add_44 rfl (lv_at hl 1 rfl) ?_
  obtain ⟨fs_9, v_10, q1, q2, h⟩ := h
  refine z_get C hR q1 rfl (ci := 2) rfl in_X2 1 (by decide) q155 (fun _ h => h) q2 dX2_add_45 ?_
  obtain ⟨h1, h2⟩ := h
  refine lv_icmp_ge (tgt := 98) C.x C.b dX2_add_48 (by decide) (fun c => ?_) (fun c => ?_)
  · have h := h1 c; clear h1 h2
    exact h H locs ls hR hS (lv_sub hl [1, 2, 3, 0] rfl)
  · have h := h2 c; clear h1 h2
    refine lv_iload_n C.x C.b dX2_add_51 rfl (lv_at hl 2 rfl) ?_
    refine lv_iload_n C.x C.b dX2_add_52 rfl (lv_at hl 0 rfl) ?_
    obtain ⟨h1, h2⟩ := h
    refine lv_icmp_gt (tgt := 98) C.x C.b dX2_add_53 (by decide) (fun c => ?_) (fun c => ?_)
    · have h := h1 c; clear h1 h2
      exact h H locs ls hR hS (lv_sub hl [1, 2, 3, 0] rfl)
    · have h := h2 c; clear h1 h2
      refine lv_aload_n C.x C.b dX2_add_56 rfl (lv_at hl 1 rfl) ?_
      refine lv_aload_n C.x C.b dX2_add_57 rfl (lv_at hl 1 rfl) ?_
      obtain ⟨fs_11, r_12, q1, q2, h⟩ := h
      refine z_get C hR q1 rfl (ci := 2) rfl in_X2 3 (by decide) q157 (fun _ h => h) q2 dX2_add_58 ?_
      obtain ⟨h1, h2⟩ := h
      cases r_12 with
      | none =>
        have h := h1 rfl; clear h1 h2
        have hl : lv_has ls 4 [(3, .int ((v_4 + v_6) / 2)), (0, .ref a0), (1, .int x1), (2, .ref a2)] := by assumption
        refine lv_ifnonnullN C.x C.b dX2_add_61 ?_
        obtain ⟨q1, h⟩ := h
        refine z_new C hR hS 2 rfl (ci := 2) rfl in_X2 tyX2 tyX2_ok q1110 q149 q77 (fs := [.int 0, .int 0, .null, .null, .null]) zdf_X2 q1 dX2_add_64 (fun a_14 hf H hR hS => ?_)
        have h := h a_14 hf _ rfl
        generalize zSz (zSo g_2 2 a_14 [.int 0, .int 0, .null, .null, .null]) (zGz g_2 + 1 + 5) = g_15 at h hR
        refine lv_dup C.x C.b dX2_add_67 rfl ?_
        refine lv_aload_n C.x C.b dX2_add_68 rfl (lv_at hl 1 rfl) ?_
        obtain ⟨fs_16, v_17, q1, q2, h⟩ := h
        refine z_get C hR q1 rfl (ci := 2) rfl in_X2 0 (by decide) q154 (fun _ h => h) q2 dX2_add_69 ?_
        refine lv_iload_n C.x C.b dX2_add_72 rfl (lv_at hl 0 rfl) ?_
        refine z_callI C hR hS hl (n := 2) (y := yX2_init) (bytes := cX2_init) (maxL := 3) (As := [.int v_17, .int ((v_4 + v_6) / 2)]) (rest := [.ref a_14, .ref a0]) (lw_meth q152) q77 q1111 q151 rfl hdS_X2_init (by decide) rfl rfl (Nat.le_of_ble_eq_true rfl) dX2_add_73 h (fun r g_18 hk_ => ?_) (fun x g1 h => z_out C hQ h)
        clear h; obtain ⟨rfl, h⟩ := hk_
        show GW X E 4 g_18 76 [(3, .int ((v_4 + v_6) / 2)), (0, .ref a0), (1, .int x1), (2, .ref a2)] [.ref a_14, .ref a0]
        intro H locs ls hR hS hl
        refine lv_goto (tgt := 83) C.x C.b dX2_add_76 (by decide) ?_
        obtain ⟨fs_19, q1, q2, h⟩ := h
        refine z_put C hR hS q1 rfl (ci := 2) rfl in_X2 tyX2 tyX2_ok nmX2 3 (by decide) q157 (fun _ h => h) rfl ⟨rfl, rfl⟩ q2 dX2_add_83 (fun H locs hR hS => ?_)
        have h := h _ rfl
        generalize zSo g_18 2 a0 (fs_19.set 3 (.ref a_14)) = g_20 at h hR
        refine lv_aload_n C.x C.b dX2_add_86 rfl (lv_at hl 1 rfl) ?_
        obtain ⟨fs_21, r_22, q1, q2, h⟩ := h
        refine z_get C hR q1 rfl (ci := 2) rfl in_X2 3 (by decide) q157 (fun _ h => h) q2 dX2_add_87 ?_
        refine lv_iload_n C.x C.b dX2_add_90 rfl (lv_at hl 2 rfl) ?_
        refine lv_aload_n C.x C.b dX2_add_91 rfl (lv_at hl 3 rfl) ?_
        obtain ⟨a_23, e_, h⟩ := h; subst e_
        have hl : lv_has ls 4 [(3, .int ((v_4 + v_6) / 2)), (0, .ref a0), (1, .int x1), (2, .ref a2)] := by assumption
        show zV X E H locs (F0 (zm E) 92 ls [.ref a2, .int x1, .ref a_23])
        refine z_callV C hR hS hl (n := 2) (C1 := RX2) (T := TX2) (N := 5) (ci := 2) (y := yX2_add) (bytes := cX2_add) (maxL := 4) (rt := none) (As := [.int x1, .ref a2]) (rest := []) h.1 rfl (lw_V q1112 q1089 q1090 q77 q1091) hdV_X2_add (by decide) rfl rfl (Nat.le_of_ble_eq_true rfl) dX2_add_92 h.2 (fun r g_24 hk_ => ?_) (fun x g1 h => z_out C hQ h)
        clear h; obtain ⟨rfl, h⟩ := hk_
        show GW X E 4 g_24 95 [(3, .int ((v_4 + v_6) / 2)), (0, .ref a0), (1, .int x1), (2, .ref a2)] []
        intro H locs ls hR hS hl
        refine lv_goto (tgt := 150) C.x C.b dX2_add_95 (by decide) ?_
        exact z_vret C hQ dX2_add_150 h H locs ls hR hS hl
      | some a_13 =>
        have h := h2 _ rfl; clear h1 h2
        have hl : lv_has ls 4 [(3, .int ((v_4 + v_6) / 2)), (0, .ref a0), (1, .int x1), (2, .ref a2)] := by assumption
        refine lv_ifnonnull (tgt := 79) C.x C.b dX2_add_61 (by decide) ?_
        refine lv_aload_n C.x C.b dX2_add_79 rfl (lv_at hl 1 rfl) ?_
        obtain ⟨fs_25, r_26, q1, q2, h⟩ := h
        refine z_get C hR q1 rfl (ci := 2) rfl in_X2 3 (by decide) q157 (fun _ h => h) q2 dX2_add_80 ?_
        obtain ⟨fs_27, q1, q2, h⟩ := h
        refine z_put C hR hS q1 rfl (ci := 2) rfl in_X2 tyX2 tyX2_ok nmX2 3 (by decide) q157 (fun _ h => h) rfl (zrf_o _) q2 dX2_add_83 (fun H locs hR hS => ?_)
        have h := h _ rfl
        generalize zSo g_2 2 a0 (fs_27.set 3 (va_rf r_26)) = g_28 at h hR
        refine lv_aload_n C.x C.b dX2_add_86 rfl (lv_at hl 1 rfl) ?_
        obtain ⟨fs_29, r_30, q1, q2, h⟩ := h
        refine z_get C hR q1 rfl (ci := 2) rfl in_X2 3 (by decide) q157 (fun _ h => h) q2 dX2_add_87 ?_
        refine lv_iload_n C.x C.b dX2_add_90 rfl (lv_at hl 2 rfl) ?_
        refine lv_aload_n C.x C.b dX2_add_91 rfl (lv_at hl 3 rfl) ?_
        obtain ⟨a_31, e_, h⟩ := h; subst e_
        have hl : lv_has ls 4 [(3, .int ((v_4 + v_6) / 2)), (0, .ref a0), (1, .int x1), (2, .ref a2)] := by assumption
        show zV X E H locs (F0 (zm E) 92 ls [.ref a2, .int x1, .ref a_31])
        refine z_callV C hR hS hl (n := 2) (C1 := RX2) (T := TX2) (N := 5) (ci := 2) (y := yX2_add) (bytes := cX2_add) (maxL := 4) (rt := none) (As := [.int x1, .ref a2]) (rest := []) h.1 rfl (lw_V q1112 q1089 q1090 q77 q1091) hdV_X2_add (by decide) rfl rfl (Nat.le_of_ble_eq_true rfl) dX2_add_92 h.2 (fun r g_32 hk_ => ?_) (fun x g1 h => z_out C hQ h)
        clear h; obtain ⟨rfl, h⟩ := hk_
        show GW X E 4 g_32 95 [(3, .int ((v_4 + v_6) / 2)), (0, .ref a0), (1, .int x1), (2, .ref a2)] []
        intro H locs ls hR hS hl
        refine lv_goto (tgt := 150) C.x C.b dX2_add_95 (by decide) ?_
        exact z_vret C hQ dX2_add_150 h H locs ls hR hS hl
set_option maxHeartbeats 4000000 in
theorem bX2_add_98 {X : zX} {d : Nat} {E : zM} {K : Option Value → zG → Prop} {KX : String → zG → Prop} (C : zC X (d + 1) E RX2 cX2_add 4 none "add") (hQ : zQ X E K KX) (g : zG) (a0 : Nat) (x1 : Int32) (a2 : Nat) (x3 : Int32) (h : ∃ (fs_1 : List Value) (v_2 : Int32), zGo g 2 a0 = some fs_1 ∧ fs_1[0]? = some (.int v_2) ∧ ∃ (fs_3 : List Value) (v_4 : Int32), zGo g 2 a0 = some fs_3 ∧ fs_3[1]? = some (.int v_4) ∧ (v_4 ≤ v_2 → K none g) ∧ (¬ v_4 ≤ v_2 → ∃ (fs_5 : List Value) (r_6 : Option Nat), zGo g 2 a0 = some fs_5 ∧ fs_5[4]? = some (va_rf r_6) ∧ (r_6 = none → zGz g + 1 + 5 ≤ zz X ∧ ∀ a_8 : Nat, zFr g a_8 → ∀ g_9 : zG, g_9 = zSz (zSo g 2 a_8 [.int 0, .int 0, .null, .null, .null]) (zGz g + 1 + 5) → ∃ (fs_10 : List Value) (v_11 : Int32), zGo g_9 2 a0 = some fs_10 ∧ fs_10[1]? = some (.int v_11) ∧ zCal X d yX2_init wX2_init [.ref a_8, .int (x3 + 1), .int v_11] g_9 (fun r g_12 => r = none ∧ ∃ (fs_13 : List Value), zGo g_12 2 a0 = some fs_13 ∧ 4 < fs_13.length ∧ ∀ g_14 : zG, g_14 = zSo g_12 2 a0 (fs_13.set 4 (.ref a_8)) → ∃ (fs_15 : List Value) (r_16 : Option Nat), zGo g_14 2 a0 = some fs_15 ∧ fs_15[4]? = some (va_rf r_16) ∧ ∃ a_17 : Nat, r_16 = some a_17 ∧ zIs g_14 2 a_17 ∧ zCal X d yX2_add wX2_add [.ref a_17, .int x1, .ref a2] g_14 (fun r g_18 => r = none ∧ K none g_18) KX) KX) ∧ (∀ a_7 : Nat, r_6 = some a_7 → ∃ (fs_19 : List Value) (r_20 : Option Nat), zGo g 2 a0 = some fs_19 ∧ fs_19[4]? = some (va_rf r_20) ∧ ∃ (fs_21 : List Value), zGo g 2 a0 = some fs_21 ∧ 4 < fs_21.length ∧ ∀ g_22 : zG, g_22 = zSo g 2 a0 (fs_21.set 4 (va_rf r_20)) → ∃ (fs_23 : List Value) (r_24 : Option Nat), zGo g_22 2 a0 = some fs_23 ∧ fs_23[4]? = some (va_rf r_24) ∧ ∃ a_25 : Nat, r_24 = some a_25 ∧ zIs g_22 2 a_25 ∧ zCal X d yX2_add wX2_add [.ref a_25, .int x1, .ref a2] g_22 (fun r g_26 => r = none ∧ K none g_26) KX))) : GW X E 4 g 98 [(0, .ref a0), (1, .int x1), (2, .ref a2), (3, .int x3)] [] := by
  intro H locs ls hR hS hl
  refine lv_aload_n C.x C.b dX2_add_98 rfl (lv_at hl 0 rfl) ?_
  obtain ⟨fs_1, v_2, q1, q2, h⟩ := h
  refine z_get C hR q1 rfl (ci := 2) rfl in_X2 0 (by decide) q154 (fun _ h => h) q2 dX2_add_99 ?_
  refine lv_aload_n C.x C.b dX2_add_102 rfl (lv_at hl 0 rfl) ?_
  obtain ⟨fs_3, v_4, q1, q2, h⟩ := h
  refine z_get C hR q1 rfl (ci := 2) rfl in_X2 1 (by decide) q155 (fun _ h => h) q2 dX2_add_103 ?_
  obtain ⟨h1, h2⟩ := h
  refine lv_icmp_ge (tgt := 150) C.x C.b dX2_add_106 (by decide) (fun c => ?_) (fun c => ?_)
  · have h := h1 c; clear h1 h2
    exact z_vret C hQ dX2_add_150 h H locs ls hR hS hl
  · have h := h2 c; clear h1 h2
    refine lv_aload_n C.x C.b dX2_add_109 rfl (lv_at hl 0 rfl) ?_
    refine lv_aload_n C.x C.b dX2_add_110 rfl (lv_at hl 0 rfl) ?_
    obtain ⟨fs_5, r_6, q1, q2, h⟩ := h
    refine z_get C hR q1 rfl (ci := 2) rfl in_X2 4 (by decide) q158 (fun _ h => h) q2 dX2_add_111 ?_
    obtain ⟨h1, h2⟩ := h
    cases r_6 with
    | none =>
      have h := h1 rfl; clear h1 h2
      have hl : lv_has ls 4 [(0, .ref a0), (1, .int x1), (2, .ref a2), (3, .int x3)] := by assumption
      refine lv_ifnonnullN C.x C.b dX2_add_114 ?_
      obtain ⟨q1, h⟩ := h
      refine z_new C hR hS 2 rfl (ci := 2) rfl in_X2 tyX2 tyX2_ok q1110 q149 q77 (fs := [.int 0, .int 0, .null, .null, .null]) zdf_X2 q1 dX2_add_117 (fun a_8 hf H hR hS => ?_)
      have h := h a_8 hf _ rfl
      generalize zSz (zSo g 2 a_8 [.int 0, .int 0, .null, .null, .null]) (zGz g + 1 + 5) = g_9 at h hR
      refine lv_dup C.x C.b dX2_add_120 rfl ?_
      refine lv_iload_n C.x C.b dX2_add_121 rfl (lv_at hl 3 rfl) ?_
      refine lv_iconst (v := 1) C.x C.b dX2_add_122 (by decide) ?_
      refine lv_iadd C.x C.b dX2_add_123 ?_
      refine lv_aload_n C.x C.b dX2_add_124 rfl (lv_at hl 0 rfl) ?_
      obtain ⟨fs_10, v_11, q1, q2, h⟩ := h
      refine z_get C hR q1 rfl (ci := 2) rfl in_X2 1 (by decide) q155 (fun _ h => h) q2 dX2_add_125 ?_
      refine z_callI C hR hS hl (n := 2) (y := yX2_init) (bytes := cX2_init) (maxL := 3) (As := [.int (x3 + 1), .int v_11]) (rest := [.ref a_8, .ref a0]) (lw_meth q152) q77 q1111 q151 rfl hdS_X2_init (by decide) rfl rfl (Nat.le_of_ble_eq_true rfl) dX2_add_128 h (fun r g_12 hk_ => ?_) (fun x g1 h => z_out C hQ h)
      clear h; obtain ⟨rfl, h⟩ := hk_
      show GW X E 4 g_12 131 [(0, .ref a0), (1, .int x1), (2, .ref a2), (3, .int x3)] [.ref a_8, .ref a0]
      intro H locs ls hR hS hl
      refine lv_goto (tgt := 138) C.x C.b dX2_add_131 (by decide) ?_
      obtain ⟨fs_13, q1, q2, h⟩ := h
      refine z_put C hR hS q1 rfl (ci := 2) rfl in_X2 tyX2 tyX2_ok nmX2 4 (by decide) q158 (fun _ h => h) rfl ⟨rfl, rfl⟩ q2 dX2_add_138 (fun H locs hR hS => ?_)
      have h := h _ rfl
      generalize zSo g_12 2 a0 (fs_13.set 4 (.ref a_8)) = g_14 at h hR
      refine lv_aload_n C.x C.b dX2_add_141 rfl (lv_at hl 0 rfl) ?_
      obtain ⟨fs_15, r_16, q1, q2, h⟩ := h
      refine z_get C hR q1 rfl (ci := 2) rfl in_X2 4 (by decide) q158 (fun _ h => h) q2 dX2_add_142 ?_
      refine lv_iload_n C.x C.b dX2_add_145 rfl (lv_at hl 1 rfl) ?_
      refine lv_aload_n C.x C.b dX2_add_146 rfl (lv_at hl 2 rfl) ?_
      obtain ⟨a_17, e_, h⟩ := h; subst e_
      have hl : lv_has ls 4 [(0, .ref a0), (1, .int x1), (2, .ref a2), (3, .int x3)] := by assumption
      show zV X E H locs (F0 (zm E) 147 ls [.ref a2, .int x1, .ref a_17])
      refine z_callV C hR hS hl (n := 2) (C1 := RX2) (T := TX2) (N := 5) (ci := 2) (y := yX2_add) (bytes := cX2_add) (maxL := 4) (rt := none) (As := [.int x1, .ref a2]) (rest := []) h.1 rfl (lw_V q1112 q1089 q1090 q77 q1091) hdV_X2_add (by decide) rfl rfl (Nat.le_of_ble_eq_true rfl) dX2_add_147 h.2 (fun r g_18 hk_ => ?_) (fun x g1 h => z_out C hQ h)
      clear h; obtain ⟨rfl, h⟩ := hk_
      show GW X E 4 g_18 150 [(0, .ref a0), (1, .int x1), (2, .ref a2), (3, .int x3)] []
      intro H locs ls hR hS hl
      exact z_vret C hQ dX2_add_150 h H locs ls hR hS hl
    | some a_7 =>
      have h := h2 _ rfl; clear h1 h2
      have hl : lv_has ls 4 [(0, .ref a0), (1, .int x1), (2, .ref a2), (3, .int x3)] := by assumption
      refine lv_ifnonnull (tgt := 134) C.x C.b dX2_add_114 (by decide) ?_
      refine lv_aload_n C.x C.b dX2_add_134 rfl (lv_at hl 0 rfl) ?_
      obtain ⟨fs_19, r_20, q1, q2, h⟩ := h
      refine z_get C hR q1 rfl (ci := 2) rfl in_X2 4 (by decide) q158 (fun _ h => h) q2 dX2_add_135 ?_
      obtain ⟨fs_21, q1, q2, h⟩ := h
      refine z_put C hR hS q1 rfl (ci := 2) rfl in_X2 tyX2 tyX2_ok nmX2 4 (by decide) q158 (fun _ h => h) rfl (zrf_o _) q2 dX2_add_138 (fun H locs hR hS => ?_)
      have h := h _ rfl
      generalize zSo g 2 a0 (fs_21.set 4 (va_rf r_20)) = g_22 at h hR
      refine lv_aload_n C.x C.b dX2_add_141 rfl (lv_at hl 0 rfl) ?_
      obtain ⟨fs_23, r_24, q1, q2, h⟩ := h
      refine z_get C hR q1 rfl (ci := 2) rfl in_X2 4 (by decide) q158 (fun _ h => h) q2 dX2_add_142 ?_
      refine lv_iload_n C.x C.b dX2_add_145 rfl (lv_at hl 1 rfl) ?_
      refine lv_aload_n C.x C.b dX2_add_146 rfl (lv_at hl 2 rfl) ?_
      obtain ⟨a_25, e_, h⟩ := h; subst e_
      have hl : lv_has ls 4 [(0, .ref a0), (1, .int x1), (2, .ref a2), (3, .int x3)] := by assumption
      show zV X E H locs (F0 (zm E) 147 ls [.ref a2, .int x1, .ref a_25])
      refine z_callV C hR hS hl (n := 2) (C1 := RX2) (T := TX2) (N := 5) (ci := 2) (y := yX2_add) (bytes := cX2_add) (maxL := 4) (rt := none) (As := [.int x1, .ref a2]) (rest := []) h.1 rfl (lw_V q1112 q1089 q1090 q77 q1091) hdV_X2_add (by decide) rfl rfl (Nat.le_of_ble_eq_true rfl) dX2_add_147 h.2 (fun r g_26 hk_ => ?_) (fun x g1 h => z_out C hQ h)
      clear h; obtain ⟨rfl, h⟩ := hk_
      show GW X E 4 g_26 150 [(0, .ref a0), (1, .int x1), (2, .ref a2), (3, .int x3)] []
      intro H locs ls hR hS hl
      exact z_vret C hQ dX2_add_150 h H locs ls hR hS hl
set_option maxHeartbeats 4000000 in
theorem mX2_add {X : zX} {d : Nat} {g : zG} {K : Option Value → zG → Prop} {KX : String → zG → Prop} (hok : zOk X) (a0 : Nat) (x1 : Int32) (a2 : Nat) (h : ∀ E : zM, zC X (d + 1) E RX2 cX2_add 4 none "add" → zQ X E K KX → ∃ (fs_1 : List Value) (r_2 : Option Nat), zGo g 2 a0 = some fs_1 ∧ fs_1[2]? = some (va_rf r_2) ∧ (r_2 = none → GW X E 4 g 25 [(0, .ref a0), (1, .int x1), (2, .ref a2)] [.ref a2, .ref a0]) ∧ (∀ a_3 : Nat, r_2 = some a_3 → ∃ (fs_4 : List Value) (r_5 : Option Nat), zGo g 2 a0 = some fs_4 ∧ fs_4[2]? = some (va_rf r_5) ∧ ∃ a_6 : Nat, r_5 = some a_6 ∧ zIs g 5 a_6 ∧ zCal X d yX5_join wX5_join [.ref a_6, .ref a2] g (fun r g_7 => ∃ a_9 : Nat, r = some (.ref a_9) ∧ zIs g_7 5 a_9 ∧ GW X E 4 g_7 25 [(0, .ref a0), (1, .int x1), (2, .ref a2)] [.ref a_9, .ref a0]) KX)) : zCal X (d + 1) yX2_add wX2_add [.ref a0, .int x1, .ref a2] g K KX := by
  refine z_enter hok pn_X2 (Nat.le_of_ble_eq_true rfl) (fun E C hQ => ?_)
  have C : zC X (d + 1) E RX2 cX2_add 4 none "add" := C
  have h := h E C hQ
  show GW X E 4 g 0 [(0, .ref a0), (1, .int x1), (2, .ref a2)] []
  intro H locs ls hR hS hl
  refine lv_aload_n C.x C.b dX2_add_0 rfl (lv_at hl 0 rfl) ?_
  refine lv_aload_n C.x C.b dX2_add_1 rfl (lv_at hl 0 rfl) ?_
  obtain ⟨fs_1, r_2, q1, q2, h⟩ := h
  refine z_get C hR q1 rfl (ci := 2) rfl in_X2 2 (by decide) q156 (fun _ h => h) q2 dX2_add_2 ?_
  obtain ⟨h1, h2⟩ := h
  cases r_2 with
  | none =>
    have h := h1 rfl; clear h1 h2
    have hl : lv_has ls 4 [(0, .ref a0), (1, .int x1), (2, .ref a2)] := by assumption
    refine lv_ifnonnullN C.x C.b dX2_add_5 ?_
    refine lv_aload_n C.x C.b dX2_add_8 rfl (lv_at hl 2 rfl) ?_
    refine lv_goto (tgt := 25) C.x C.b dX2_add_9 (by decide) ?_
    exact h H locs ls hR hS (lv_sub hl [0, 1, 2] rfl)
  | some a_3 =>
    have h := h2 _ rfl; clear h1 h2
    have hl : lv_has ls 4 [(0, .ref a0), (1, .int x1), (2, .ref a2)] := by assumption
    refine lv_ifnonnull (tgt := 12) C.x C.b dX2_add_5 (by decide) ?_
    refine lv_aload_n C.x C.b dX2_add_12 rfl (lv_at hl 0 rfl) ?_
    obtain ⟨fs_4, r_5, q1, q2, h⟩ := h
    refine z_get C hR q1 rfl (ci := 2) rfl in_X2 2 (by decide) q156 (fun _ h => h) q2 dX2_add_13 ?_
    refine lv_aload_n C.x C.b dX2_add_16 rfl (lv_at hl 2 rfl) ?_
    obtain ⟨a_6, e_, h⟩ := h; subst e_
    have hl : lv_has ls 4 [(0, .ref a0), (1, .int x1), (2, .ref a2)] := by assumption
    show zV X E H locs (F0 (zm E) 17 ls [.ref a2, .ref a_6, .ref a0])
    refine z_callF C hR hS hl (n := 1) (C1 := RX5) (T := TX5) (N := 2) (ci := 5) (y := yX5_join) (bytes := cX5_join) (maxL := 2) (rt := (some (.object "java/lang/Object"))) (As := [.ref a2]) (rest := [.ref a0]) (x := ⟨"LogGrammar$Summary", "join", "(Ljava/lang/Object;)Ljava/lang/Object;"⟩) h.1 rfl (lw_F q1093 q1097 q1099 q100 q1101) ⟨C.ok.2.1 _ q1095, C.ok.2.1 _ q1094, C.ok.2.1 _ q1100, C.ok.2.1 _ q1098, C.ok.2.1 _ q1096⟩ hdF_X5_join (by decide) rfl rfl (Nat.le_of_ble_eq_true rfl) dX2_add_17 h.2 (fun r g_7 hk_ => ?_) (fun x g1 h => z_out C hQ h)
    clear h; obtain ⟨a_9, rfl, h⟩ := hk_
    show GW X E 4 g_7 22 [(0, .ref a0), (1, .int x1), (2, .ref a2)] [.ref a_9, .ref a0]
    intro H locs ls hR hS hl
    refine z_castY C hR (ci := 5) (C1 := RX5) (T := TX5) (N := 2) h.1 rfl q1109 (C.nestC q1096) dX2_add_22 ?_
    have h := h.2
    exact h H locs ls hR hS (lv_sub hl [0, 1, 2] rfl)
theorem hdV_X2_over : yX2_over.cls = RX2 ∧ yX2_over.cls ≠ "java/lang/invoke/MethodHandle" ∧ yX2_over.cls ≠ "java/lang/invoke/VarHandle" ∧ (parseMethodDescriptor yX2_over.desc).map (fun d => d.parameters.length) = some 2 := by decide +kernel
set_option maxHeartbeats 4000000 in
theorem bX2_over_46 {X : zX} {d : Nat} {E : zM} {K : Option Value → zG → Prop} {KX : String → zG → Prop} (C : zC X (d + 1) E RX2 cX2_over 5 (some (.object "LogGrammar$Summary")) "over") (hQ : zQ X E K KX) (g : zG) (a0 : Nat) (x1 : Int32) (x2 : Int32) (h : ∃ (fs_1 : List Value) (r_2 : Option Nat), zGo g 2 a0 = some fs_1 ∧ fs_1[3]? = some (va_rf r_2) ∧ (r_2 = none → GW X E 5 g 66 [(0, .ref a0), (1, .int x1), (2, .int x2)] [.null]) ∧ (∀ a_3 : Nat, r_2 = some a_3 → ∃ (fs_4 : List Value) (r_5 : Option Nat), zGo g 2 a0 = some fs_4 ∧ fs_4[3]? = some (va_rf r_5) ∧ ∃ a_6 : Nat, r_5 = some a_6 ∧ zIs g 2 a_6 ∧ zCal X d yX2_over wX2_over [.ref a_6, .int x1, .int x2] g (fun r g_7 => ∃ r_8 : Option Nat, r = some (va_rf r_8) ∧ GW X E 5 g_7 66 [(0, .ref a0), (1, .int x1), (2, .int x2)] [va_rf r_8]) KX)) : GW X E 5 g 46 [(0, .ref a0), (1, .int x1), (2, .int x2)] [] := by
  intro H locs ls hR hS hl
  refine lv_aload_n C.x C.b dX2_over_46 rfl (lv_at hl 0 rfl) ?_
  obtain ⟨fs_1, r_2, q1, q2, h⟩ := h
  refine z_get C hR q1 rfl (ci := 2) rfl in_X2 3 (by decide) q157 (fun _ h => h) q2 dX2_over_47 ?_
  obtain ⟨h1, h2⟩ := h
  cases r_2 with
  | none =>
    have h := h1 rfl; clear h1 h2
    have hl : lv_has ls 5 [(0, .ref a0), (1, .int x1), (2, .int x2)] := by assumption
    refine lv_ifnonnullN C.x C.b dX2_over_50 ?_
    refine lv_null C.x C.b dX2_over_53 ?_
    refine lv_goto (tgt := 66) C.x C.b dX2_over_54 (by decide) ?_
    exact h H locs ls hR hS (lv_sub hl [0, 1, 2] rfl)
  | some a_3 =>
    have h := h2 _ rfl; clear h1 h2
    have hl : lv_has ls 5 [(0, .ref a0), (1, .int x1), (2, .int x2)] := by assumption
    refine lv_ifnonnull (tgt := 57) C.x C.b dX2_over_50 (by decide) ?_
    refine lv_aload_n C.x C.b dX2_over_57 rfl (lv_at hl 0 rfl) ?_
    obtain ⟨fs_4, r_5, q1, q2, h⟩ := h
    refine z_get C hR q1 rfl (ci := 2) rfl in_X2 3 (by decide) q157 (fun _ h => h) q2 dX2_over_58 ?_
    refine lv_iload_n C.x C.b dX2_over_61 rfl (lv_at hl 1 rfl) ?_
    refine lv_iload_n C.x C.b dX2_over_62 rfl (lv_at hl 2 rfl) ?_
    obtain ⟨a_6, e_, h⟩ := h; subst e_
    have hl : lv_has ls 5 [(0, .ref a0), (1, .int x1), (2, .int x2)] := by assumption
    show zV X E H locs (F0 (zm E) 63 ls [.int x2, .int x1, .ref a_6])
    refine z_callV C hR hS hl (n := 2) (C1 := RX2) (T := TX2) (N := 5) (ci := 2) (y := yX2_over) (bytes := cX2_over) (maxL := 5) (rt := (some (.object "LogGrammar$Summary"))) (As := [.int x1, .int x2]) (rest := []) h.1 rfl (lw_V q1500 q1497 q1498 q77 q1499) hdV_X2_over (by decide) rfl rfl (Nat.le_of_ble_eq_true rfl) dX2_over_63 h.2 (fun r g_7 hk_ => ?_) (fun x g1 h => z_out C hQ h)
    clear h; obtain ⟨r_8, rfl, h⟩ := hk_
    show GW X E 5 g_7 66 [(0, .ref a0), (1, .int x1), (2, .int x2)] [va_rf r_8]
    intro H locs ls hR hS hl
    exact h H locs ls hR hS (lv_sub hl [0, 1, 2] rfl)
set_option maxHeartbeats 4000000 in
theorem bX2_over_66 {X : zX} {d : Nat} {E : zM} {K : Option Value → zG → Prop} {KX : String → zG → Prop} (C : zC X (d + 1) E RX2 cX2_over 5 (some (.object "LogGrammar$Summary")) "over") (hQ : zQ X E K KX) (g : zG) (a0 : Nat) (x1 : Int32) (x2 : Int32) (s0 : Option Nat) (h : ∃ (fs_1 : List Value) (r_2 : Option Nat), zGo g 2 a0 = some fs_1 ∧ fs_1[4]? = some (va_rf r_2) ∧ (r_2 = none → GW X E 5 g 87 [(3, va_rf s0)] [.null]) ∧ (∀ a_3 : Nat, r_2 = some a_3 → ∃ (fs_4 : List Value) (r_5 : Option Nat), zGo g 2 a0 = some fs_4 ∧ fs_4[4]? = some (va_rf r_5) ∧ ∃ a_6 : Nat, r_5 = some a_6 ∧ zIs g 2 a_6 ∧ zCal X d yX2_over wX2_over [.ref a_6, .int x1, .int x2] g (fun r g_7 => ∃ r_8 : Option Nat, r = some (va_rf r_8) ∧ GW X E 5 g_7 87 [(3, va_rf s0)] [va_rf r_8]) KX)) : GW X E 5 g 66 [(0, .ref a0), (1, .int x1), (2, .int x2)] [va_rf s0] := by
  intro H locs ls hR hS hl
  refine z_astore_n (lv' := [(3, va_rf s0), (0, .ref a0), (1, .int x1), (2, .int x2)]) C.x C.b dX2_over_66 rfl hl (by decide) rfl (fun ls hl => ?_)
  refine lv_aload_n C.x C.b dX2_over_67 rfl (lv_at hl 1 rfl) ?_
  obtain ⟨fs_1, r_2, q1, q2, h⟩ := h
  refine z_get C hR q1 rfl (ci := 2) rfl in_X2 4 (by decide) q158 (fun _ h => h) q2 dX2_over_68 ?_
  obtain ⟨h1, h2⟩ := h
  cases r_2 with
  | none =>
    have h := h1 rfl; clear h1 h2
    have hl : lv_has ls 5 [(3, va_rf s0), (0, .ref a0), (1, .int x1), (2, .int x2)] := by assumption
    refine lv_ifnonnullN C.x C.b dX2_over_71 ?_
    refine lv_null C.x C.b dX2_over_74 ?_
    refine lv_goto (tgt := 87) C.x C.b dX2_over_75 (by decide) ?_
    exact h H locs ls hR hS (lv_sub hl [0] rfl)
  | some a_3 =>
    have h := h2 _ rfl; clear h1 h2
    have hl : lv_has ls 5 [(3, va_rf s0), (0, .ref a0), (1, .int x1), (2, .int x2)] := by assumption
    refine lv_ifnonnull (tgt := 78) C.x C.b dX2_over_71 (by decide) ?_
    refine lv_aload_n C.x C.b dX2_over_78 rfl (lv_at hl 1 rfl) ?_
    obtain ⟨fs_4, r_5, q1, q2, h⟩ := h
    refine z_get C hR q1 rfl (ci := 2) rfl in_X2 4 (by decide) q158 (fun _ h => h) q2 dX2_over_79 ?_
    refine lv_iload_n C.x C.b dX2_over_82 rfl (lv_at hl 2 rfl) ?_
    refine lv_iload_n C.x C.b dX2_over_83 rfl (lv_at hl 3 rfl) ?_
    obtain ⟨a_6, e_, h⟩ := h; subst e_
    have hl : lv_has ls 5 [(3, va_rf s0), (0, .ref a0), (1, .int x1), (2, .int x2)] := by assumption
    show zV X E H locs (F0 (zm E) 84 ls [.int x2, .int x1, .ref a_6])
    refine z_callV C hR hS hl (n := 2) (C1 := RX2) (T := TX2) (N := 5) (ci := 2) (y := yX2_over) (bytes := cX2_over) (maxL := 5) (rt := (some (.object "LogGrammar$Summary"))) (As := [.int x1, .int x2]) (rest := []) h.1 rfl (lw_V q1500 q1497 q1498 q77 q1499) hdV_X2_over (by decide) rfl rfl (Nat.le_of_ble_eq_true rfl) dX2_over_84 h.2 (fun r g_7 hk_ => ?_) (fun x g1 h => z_out C hQ h)
    clear h; obtain ⟨r_8, rfl, h⟩ := hk_
    show GW X E 5 g_7 87 [(3, va_rf s0), (0, .ref a0), (1, .int x1), (2, .int x2)] [va_rf r_8]
    intro H locs ls hR hS hl
    exact h H locs ls hR hS (lv_sub hl [0] rfl)
set_option maxHeartbeats 4000000 in
theorem bX2_over_87 {X : zX} {d : Nat} {E : zM} {K : Option Value → zG → Prop} {KX : String → zG → Prop} (C : zC X (d + 1) E RX2 cX2_over 5 (some (.object "LogGrammar$Summary")) "over") (hQ : zQ X E K KX) (g : zG) (r3 : Option Nat) (s0 : Option Nat) (h : (r3 = none → K (some (va_rf s0)) g) ∧ (∀ a_1 : Nat, r3 = some a_1 → (s0 = none → K (some (.ref a_1)) g) ∧ (∀ a_2 : Nat, s0 = some a_2 → zIs g 5 a_1 ∧ zCal X d yX5_join wX5_join [.ref a_1, .ref a_2] g (fun r g_3 => ∃ a_5 : Nat, r = some (.ref a_5) ∧ zIs g_3 5 a_5 ∧ K (some (.ref a_5)) g_3) KX))) : GW X E 5 g 87 [(3, va_rf r3)] [va_rf s0] := by
  intro H locs ls hR hS hl
  refine z_astore (lv' := [(4, va_rf s0), (3, va_rf r3)]) C.x C.b dX2_over_87 hl (by decide) (by simp [zrf_cat]) (fun ls hl => ?_)
  refine z_aload_n C.x C.b dX2_over_89 rfl (lv_at hl 1 rfl) ?_
  obtain ⟨h1, h2⟩ := h
  cases r3 with
  | none =>
    have h := h1 rfl; clear h1 h2
    have hl : lv_has ls 5 [(4, va_rf s0), (3, .null)] := by assumption
    refine lv_ifnonnullN C.x C.b dX2_over_90 ?_
    refine z_aload C.x C.b dX2_over_93 (lv_at hl 0 rfl) ?_
    refine lv_goto (tgt := 118) C.x C.b dX2_over_95 (by decide) ?_
    exact z_aret C hQ (Or.inl ⟨_, rfl⟩) (zrf_rf _) dX2_over_118 h H locs ls hR hS hl
  | some a_1 =>
    have h := h2 _ rfl; clear h1 h2
    have hl : lv_has ls 5 [(4, va_rf s0), (3, .ref a_1)] := by assumption
    refine lv_ifnonnull (tgt := 98) C.x C.b dX2_over_90 (by decide) ?_
    refine z_aload C.x C.b dX2_over_98 (lv_at hl 0 rfl) ?_
    obtain ⟨h1, h2⟩ := h
    cases s0 with
    | none =>
      have h := h1 rfl; clear h1 h2
      have hl : lv_has ls 5 [(4, .null), (3, .ref a_1)] := by assumption
      refine lv_ifnonnullN C.x C.b dX2_over_100 ?_
      refine lv_aload_n C.x C.b dX2_over_103 rfl (lv_at hl 1 rfl) ?_
      refine lv_goto (tgt := 118) C.x C.b dX2_over_104 (by decide) ?_
      exact z_aret C hQ (Or.inl ⟨_, rfl⟩) (Or.inr ⟨_, rfl⟩) dX2_over_118 h H locs ls hR hS hl
    | some a_2 =>
      have h := h2 _ rfl; clear h1 h2
      have hl : lv_has ls 5 [(4, .ref a_2), (3, .ref a_1)] := by assumption
      refine lv_ifnonnull (tgt := 107) C.x C.b dX2_over_100 (by decide) ?_
      refine lv_aload_n C.x C.b dX2_over_107 rfl (lv_at hl 1 rfl) ?_
      refine lv_aload C.x C.b dX2_over_108 (lv_at hl 0 rfl) ?_
      refine z_callF C hR hS hl (n := 1) (C1 := RX5) (T := TX5) (N := 2) (ci := 5) (y := yX5_join) (bytes := cX5_join) (maxL := 2) (rt := (some (.object "java/lang/Object"))) (As := [.ref a_2]) (rest := []) (x := ⟨"LogGrammar$Summary", "join", "(Ljava/lang/Object;)Ljava/lang/Object;"⟩) h.1 rfl (lw_F q1093 q1097 q1099 q100 q1101) ⟨C.ok.2.1 _ q1095, C.ok.2.1 _ q1094, C.ok.2.1 _ q1100, C.ok.2.1 _ q1098, C.ok.2.1 _ q1096⟩ hdF_X5_join (by decide) rfl rfl (Nat.le_of_ble_eq_true rfl) dX2_over_110 h.2 (fun r g_3 hk_ => ?_) (fun x g1 h => z_out C hQ h)
      clear h; obtain ⟨a_5, rfl, h⟩ := hk_
      show GW X E 5 g_3 115 [(4, .ref a_2), (3, .ref a_1)] [.ref a_5]
      intro H locs ls hR hS hl
      refine z_castY C hR (ci := 5) (C1 := RX5) (T := TX5) (N := 2) h.1 rfl q1109 (C.nestC q1096) dX2_over_115 ?_
      have h := h.2
      exact z_aret C hQ (Or.inl ⟨_, rfl⟩) (Or.inr ⟨_, rfl⟩) dX2_over_118 h H locs ls hR hS hl
set_option maxHeartbeats 4000000 in
theorem mX2_over {X : zX} {d : Nat} {g : zG} {K : Option Value → zG → Prop} {KX : String → zG → Prop} (hok : zOk X) (a0 : Nat) (x1 : Int32) (x2 : Int32) (h : ∀ E : zM, zC X (d + 1) E RX2 cX2_over 5 (some (.object "LogGrammar$Summary")) "over" → zQ X E K KX → ∃ (fs_1 : List Value) (r_2 : Option Nat), zGo g 2 a0 = some fs_1 ∧ fs_1[2]? = some (va_rf r_2) ∧ (r_2 = none → K (some (.null)) g) ∧ (∀ a_3 : Nat, r_2 = some a_3 → ∃ (fs_4 : List Value) (v_5 : Int32), zGo g 2 a0 = some fs_4 ∧ fs_4[0]? = some (.int v_5) ∧ (x2 < v_5 → K (some (.null)) g) ∧ (¬ x2 < v_5 → ∃ (fs_6 : List Value) (v_7 : Int32), zGo g 2 a0 = some fs_6 ∧ fs_6[1]? = some (.int v_7) ∧ (x1 ≤ v_7 → ∃ (fs_8 : List Value) (v_9 : Int32), zGo g 2 a0 = some fs_8 ∧ fs_8[0]? = some (.int v_9) ∧ (v_9 < x1 → GW X E 5 g 46 [(0, .ref a0), (1, .int x1), (2, .int x2)] []) ∧ (¬ v_9 < x1 → ∃ (fs_10 : List Value) (v_11 : Int32), zGo g 2 a0 = some fs_10 ∧ fs_10[1]? = some (.int v_11) ∧ (x2 < v_11 → GW X E 5 g 46 [(0, .ref a0), (1, .int x1), (2, .int x2)] []) ∧ (¬ x2 < v_11 → ∃ (fs_12 : List Value) (r_13 : Option Nat), zGo g 2 a0 = some fs_12 ∧ fs_12[2]? = some (va_rf r_13) ∧ K (some (va_rf r_13)) g))) ∧ (¬ x1 ≤ v_7 → K (some (.null)) g)))) : zCal X (d + 1) yX2_over wX2_over [.ref a0, .int x1, .int x2] g K KX := by
  refine z_enter hok pn_X2 (Nat.le_of_ble_eq_true rfl) (fun E C hQ => ?_)
  have C : zC X (d + 1) E RX2 cX2_over 5 (some (.object "LogGrammar$Summary")) "over" := C
  have h := h E C hQ
  show GW X E 5 g 0 [(0, .ref a0), (1, .int x1), (2, .int x2)] []
  intro H locs ls hR hS hl
  refine lv_aload_n C.x C.b dX2_over_0 rfl (lv_at hl 0 rfl) ?_
  obtain ⟨fs_1, r_2, q1, q2, h⟩ := h
  refine z_get C hR q1 rfl (ci := 2) rfl in_X2 2 (by decide) q156 (fun _ h => h) q2 dX2_over_1 ?_
  obtain ⟨h1, h2⟩ := h
  cases r_2 with
  | none =>
    have h := h1 rfl; clear h1 h2
    have hl : lv_has ls 5 [(0, .ref a0), (1, .int x1), (2, .int x2)] := by assumption
    refine lv_ifnullN (tgt := 23) C.x C.b dX2_over_4 (by decide) ?_
    refine lv_null C.x C.b dX2_over_23 ?_
    exact z_aret C hQ (Or.inl ⟨_, rfl⟩) (Or.inl rfl) dX2_over_24 h H locs ls hR hS hl
  | some a_3 =>
    have h := h2 _ rfl; clear h1 h2
    have hl : lv_has ls 5 [(0, .ref a0), (1, .int x1), (2, .int x2)] := by assumption
    refine lv_ifnull C.x C.b dX2_over_4 ?_
    refine lv_iload_n C.x C.b dX2_over_7 rfl (lv_at hl 2 rfl) ?_
    refine lv_aload_n C.x C.b dX2_over_8 rfl (lv_at hl 0 rfl) ?_
    obtain ⟨fs_4, v_5, q1, q2, h⟩ := h
    refine z_get C hR q1 rfl (ci := 2) rfl in_X2 0 (by decide) q154 (fun _ h => h) q2 dX2_over_9 ?_
    obtain ⟨h1, h2⟩ := h
    refine lv_icmp_lt (tgt := 23) C.x C.b dX2_over_12 (by decide) (fun c => ?_) (fun c => ?_)
    · have h := h1 c; clear h1 h2
      refine lv_null C.x C.b dX2_over_23 ?_
      exact z_aret C hQ (Or.inl ⟨_, rfl⟩) (Or.inl rfl) dX2_over_24 h H locs ls hR hS hl
    · have h := h2 c; clear h1 h2
      refine lv_iload_n C.x C.b dX2_over_15 rfl (lv_at hl 1 rfl) ?_
      refine lv_aload_n C.x C.b dX2_over_16 rfl (lv_at hl 0 rfl) ?_
      obtain ⟨fs_6, v_7, q1, q2, h⟩ := h
      refine z_get C hR q1 rfl (ci := 2) rfl in_X2 1 (by decide) q155 (fun _ h => h) q2 dX2_over_17 ?_
      obtain ⟨h1, h2⟩ := h
      refine lv_icmp_le (tgt := 25) C.x C.b dX2_over_20 (by decide) (fun c => ?_) (fun c => ?_)
      · have h := h1 c; clear h1 h2
        refine lv_iload_n C.x C.b dX2_over_25 rfl (lv_at hl 1 rfl) ?_
        refine lv_aload_n C.x C.b dX2_over_26 rfl (lv_at hl 0 rfl) ?_
        obtain ⟨fs_8, v_9, q1, q2, h⟩ := h
        refine z_get C hR q1 rfl (ci := 2) rfl in_X2 0 (by decide) q154 (fun _ h => h) q2 dX2_over_27 ?_
        obtain ⟨h1, h2⟩ := h
        refine lv_icmp_gt (tgt := 46) C.x C.b dX2_over_30 (by decide) (fun c => ?_) (fun c => ?_)
        · have h := h1 c; clear h1 h2
          exact h H locs ls hR hS (lv_sub hl [0, 1, 2] rfl)
        · have h := h2 c; clear h1 h2
          refine lv_iload_n C.x C.b dX2_over_33 rfl (lv_at hl 2 rfl) ?_
          refine lv_aload_n C.x C.b dX2_over_34 rfl (lv_at hl 0 rfl) ?_
          obtain ⟨fs_10, v_11, q1, q2, h⟩ := h
          refine z_get C hR q1 rfl (ci := 2) rfl in_X2 1 (by decide) q155 (fun _ h => h) q2 dX2_over_35 ?_
          obtain ⟨h1, h2⟩ := h
          refine lv_icmp_lt (tgt := 46) C.x C.b dX2_over_38 (by decide) (fun c => ?_) (fun c => ?_)
          · have h := h1 c; clear h1 h2
            exact h H locs ls hR hS (lv_sub hl [0, 1, 2] rfl)
          · have h := h2 c; clear h1 h2
            refine lv_aload_n C.x C.b dX2_over_41 rfl (lv_at hl 0 rfl) ?_
            obtain ⟨fs_12, r_13, q1, q2, h⟩ := h
            refine z_get C hR q1 rfl (ci := 2) rfl in_X2 2 (by decide) q156 (fun _ h => h) q2 dX2_over_42 ?_
            exact z_aret C hQ (Or.inl ⟨_, rfl⟩) (zrf_rf _) dX2_over_45 h H locs ls hR hS hl
      · have h := h2 c; clear h1 h2
        refine lv_null C.x C.b dX2_over_23 ?_
        exact z_aret C hQ (Or.inl ⟨_, rfl⟩) (Or.inl rfl) dX2_over_24 h H locs ls hR hS hl
theorem hdV_X7_isSame : yX7_isSame.cls = RX7 ∧ yX7_isSame.cls ≠ "java/lang/invoke/MethodHandle" ∧ yX7_isSame.cls ≠ "java/lang/invoke/VarHandle" ∧ (parseMethodDescriptor yX7_isSame.desc).map (fun d => d.parameters.length) = some 1 := by decide +kernel
set_option maxHeartbeats 4000000 in
theorem bX7_isSame_37 {X : zX} {d : Nat} {E : zM} {K : Option Value → zG → Prop} {KX : String → zG → Prop} (C : zC X (d + 1) E RX7 cX7_isSame 3 (some .boolean) "isSame") (hQ : zQ X E K KX) (g : zG) (a0 : Nat) (a1 : Nat) (h : GW X E 3 g 38 [(0, .ref a0), (1, .ref a1)] [.int 0]) : GW X E 3 g 37 [(0, .ref a0), (1, .ref a1)] [] := by
  intro H locs ls hR hS hl
  refine lv_iconst (v := 0) C.x C.b dX7_isSame_37 (by decide) ?_
  exact h H locs ls hR hS (lv_sub hl [0, 1] rfl)
set_option maxHeartbeats 4000000 in
theorem bX7_isSame_38 {X : zX} {d : Nat} {E : zM} {K : Option Value → zG → Prop} {KX : String → zG → Prop} (C : zC X (d + 1) E RX7 cX7_isSame 3 (some .boolean) "isSame") (hQ : zQ X E K KX) (g : zG) (a0 : Nat) (a1 : Nat) (t0 : Int32) (h : (t0 = 0 → K (some (.int 0)) g) ∧ (¬ t0 = 0 → ∃ (k_2 : Nat) (fs_1 : List Value) (r_3 : Option Nat), zkc k_2 = 7 ∧ zGo g k_2 a0 = some fs_1 ∧ fs_1[3]? = some (va_rf r_3) ∧ (r_3 = none → GW X E 3 g 64 [(0, .ref a0), (1, .ref a1)] []) ∧ (∀ a_4 : Nat, r_3 = some a_4 → ∃ (k_6 : Nat) (fs_5 : List Value) (r_7 : Option Nat), zkc k_6 = 7 ∧ zGo g k_6 a0 = some fs_5 ∧ fs_5[3]? = some (va_rf r_7) ∧ ∃ (k_9 : Nat) (fs_8 : List Value) (r_10 : Option Nat), zkc k_9 = 7 ∧ zGo g k_9 a1 = some fs_8 ∧ fs_8[3]? = some (va_rf r_10) ∧ ∃ a_11 : Nat, r_7 = some a_11 ∧ zIs g 7 a_11 ∧ zCal X d yX7_isSame wX7_isSame [.ref a_11, va_rf r_10] g (fun r g_12 => ∃ v_13 : Int32, r = some (.int v_13) ∧ zbo v_13 ∧ (v_13 = 0 → K (some (.int 0)) g_12) ∧ (¬ v_13 = 0 → GW X E 3 g_12 64 [(0, .ref a0), (1, .ref a1)] [])) KX))) : GW X E 3 g 38 [(0, .ref a0), (1, .ref a1)] [.int t0] := by
  intro H locs ls hR hS hl
  refine lv_istore_n (lv' := [(2, .int t0), (0, .ref a0), (1, .ref a1)]) C.x C.b dX7_isSame_38 rfl hl (by decide) rfl (fun ls hl => ?_)
  refine lv_iload_n C.x C.b dX7_isSame_39 rfl (lv_at hl 0 rfl) ?_
  obtain ⟨h1, h2⟩ := h
  refine lv_if_eq (tgt := 89) C.x C.b dX7_isSame_40 (by decide) (fun c => ?_) (fun c => ?_)
  · have h := h1 c; clear h1 h2
    refine lv_iconst (v := 0) C.x C.b dX7_isSame_89 (by decide) ?_
    exact z_zret C hQ rfl dX7_isSame_90 h H locs ls hR hS hl
  · have h := h2 c; clear h1 h2
    refine lv_aload_n C.x C.b dX7_isSame_43 rfl (lv_at hl 1 rfl) ?_
    obtain ⟨k_2, fs_1, r_3, q0, q1, q2, h⟩ := h
    refine z_get C hR q1 q0 (ci := 7) rfl in_X7 3 (by decide) q1254 (fun _ h => h) q2 dX7_isSame_44 ?_
    obtain ⟨h1, h2⟩ := h
    cases r_3 with
    | none =>
      have h := h1 rfl; clear h1 h2
      have hl : lv_has ls 3 [(2, .int t0), (0, .ref a0), (1, .ref a1)] := by assumption
      refine lv_ifnullN (tgt := 64) C.x C.b dX7_isSame_47 (by decide) ?_
      exact h H locs ls hR hS (lv_sub hl [1, 2] rfl)
    | some a_4 =>
      have h := h2 _ rfl; clear h1 h2
      have hl : lv_has ls 3 [(2, .int t0), (0, .ref a0), (1, .ref a1)] := by assumption
      refine lv_ifnull C.x C.b dX7_isSame_47 ?_
      refine lv_aload_n C.x C.b dX7_isSame_50 rfl (lv_at hl 1 rfl) ?_
      obtain ⟨k_6, fs_5, r_7, q0, q1, q2, h⟩ := h
      refine z_get C hR q1 q0 (ci := 7) rfl in_X7 3 (by decide) q1254 (fun _ h => h) q2 dX7_isSame_51 ?_
      refine lv_aload_n C.x C.b dX7_isSame_54 rfl (lv_at hl 2 rfl) ?_
      obtain ⟨k_9, fs_8, r_10, q0, q1, q2, h⟩ := h
      refine z_get C hR q1 q0 (ci := 7) rfl in_X7 3 (by decide) q1254 (fun _ h => h) q2 dX7_isSame_55 ?_
      obtain ⟨a_11, e_, h⟩ := h; subst e_
      have hl : lv_has ls 3 [(2, .int t0), (0, .ref a0), (1, .ref a1)] := by assumption
      show zV X E H locs (F0 (zm E) 58 ls [va_rf r_10, .ref a_11])
      refine z_callV C hR hS hl (n := 1) (C1 := RX7) (T := TX7) (N := 7) (ci := 7) (y := yX7_isSame) (bytes := cX7_isSame) (maxL := 3) (rt := (some .boolean)) (As := [va_rf r_10]) (rest := []) h.1 rfl (lw_V q400 q397 q398 q106 q399) hdV_X7_isSame (by decide) rfl rfl (Nat.le_of_ble_eq_true rfl) dX7_isSame_58 h.2 (fun r g_12 hk_ => ?_) (fun x g1 h => z_out C hQ h)
      clear h; obtain ⟨v_13, rfl, zb_, h⟩ := hk_
      show GW X E 3 g_12 61 [(2, .int t0), (0, .ref a0), (1, .ref a1)] [.int v_13]
      intro H locs ls hR hS hl
      obtain ⟨h1, h2⟩ := h
      refine lv_if_eq (tgt := 89) C.x C.b dX7_isSame_61 (by decide) (fun c => ?_) (fun c => ?_)
      · have h := h1 c; clear h1 h2
        refine lv_iconst (v := 0) C.x C.b dX7_isSame_89 (by decide) ?_
        exact z_zret C hQ rfl dX7_isSame_90 h H locs ls hR hS hl
      · have h := h2 c; clear h1 h2
        exact h H locs ls hR hS (lv_sub hl [1, 2] rfl)
set_option maxHeartbeats 4000000 in
theorem bX7_isSame_64 {X : zX} {d : Nat} {E : zM} {K : Option Value → zG → Prop} {KX : String → zG → Prop} (C : zC X (d + 1) E RX7 cX7_isSame 3 (some .boolean) "isSame") (hQ : zQ X E K KX) (g : zG) (a0 : Nat) (a1 : Nat) (h : ∃ (k_2 : Nat) (fs_1 : List Value) (r_3 : Option Nat), zkc k_2 = 7 ∧ zGo g k_2 a0 = some fs_1 ∧ fs_1[4]? = some (va_rf r_3) ∧ (r_3 = none → K (some (.int 1)) g) ∧ (∀ a_4 : Nat, r_3 = some a_4 → ∃ (k_6 : Nat) (fs_5 : List Value) (r_7 : Option Nat), zkc k_6 = 7 ∧ zGo g k_6 a0 = some fs_5 ∧ fs_5[4]? = some (va_rf r_7) ∧ ∃ (k_9 : Nat) (fs_8 : List Value) (r_10 : Option Nat), zkc k_9 = 7 ∧ zGo g k_9 a1 = some fs_8 ∧ fs_8[4]? = some (va_rf r_10) ∧ ∃ a_11 : Nat, r_7 = some a_11 ∧ zIs g 7 a_11 ∧ zCal X d yX7_isSame wX7_isSame [.ref a_11, va_rf r_10] g (fun r g_12 => ∃ v_13 : Int32, r = some (.int v_13) ∧ zbo v_13 ∧ (v_13 = 0 → K (some (.int 0)) g_12) ∧ (¬ v_13 = 0 → K (some (.int 1)) g_12)) KX)) : GW X E 3 g 64 [(0, .ref a0), (1, .ref a1)] [] := by
  intro H locs ls hR hS hl
  refine lv_aload_n C.x C.b dX7_isSame_64 rfl (lv_at hl 0 rfl) ?_
  obtain ⟨k_2, fs_1, r_3, q0, q1, q2, h⟩ := h
  refine z_get C hR q1 q0 (ci := 7) rfl in_X7 4 (by decide) q1256 (fun _ h => h) q2 dX7_isSame_65 ?_
  obtain ⟨h1, h2⟩ := h
  cases r_3 with
  | none =>
    have h := h1 rfl; clear h1 h2
    have hl : lv_has ls 3 [(0, .ref a0), (1, .ref a1)] := by assumption
    refine lv_ifnullN (tgt := 85) C.x C.b dX7_isSame_68 (by decide) ?_
    refine lv_iconst (v := 1) C.x C.b dX7_isSame_85 (by decide) ?_
    refine lv_goto (tgt := 90) C.x C.b dX7_isSame_86 (by decide) ?_
    exact z_zret C hQ rfl dX7_isSame_90 h H locs ls hR hS hl
  | some a_4 =>
    have h := h2 _ rfl; clear h1 h2
    have hl : lv_has ls 3 [(0, .ref a0), (1, .ref a1)] := by assumption
    refine lv_ifnull C.x C.b dX7_isSame_68 ?_
    refine lv_aload_n C.x C.b dX7_isSame_71 rfl (lv_at hl 0 rfl) ?_
    obtain ⟨k_6, fs_5, r_7, q0, q1, q2, h⟩ := h
    refine z_get C hR q1 q0 (ci := 7) rfl in_X7 4 (by decide) q1256 (fun _ h => h) q2 dX7_isSame_72 ?_
    refine lv_aload_n C.x C.b dX7_isSame_75 rfl (lv_at hl 1 rfl) ?_
    obtain ⟨k_9, fs_8, r_10, q0, q1, q2, h⟩ := h
    refine z_get C hR q1 q0 (ci := 7) rfl in_X7 4 (by decide) q1256 (fun _ h => h) q2 dX7_isSame_76 ?_
    obtain ⟨a_11, e_, h⟩ := h; subst e_
    have hl : lv_has ls 3 [(0, .ref a0), (1, .ref a1)] := by assumption
    show zV X E H locs (F0 (zm E) 79 ls [va_rf r_10, .ref a_11])
    refine z_callV C hR hS hl (n := 1) (C1 := RX7) (T := TX7) (N := 7) (ci := 7) (y := yX7_isSame) (bytes := cX7_isSame) (maxL := 3) (rt := (some .boolean)) (As := [va_rf r_10]) (rest := []) h.1 rfl (lw_V q400 q397 q398 q106 q399) hdV_X7_isSame (by decide) rfl rfl (Nat.le_of_ble_eq_true rfl) dX7_isSame_79 h.2 (fun r g_12 hk_ => ?_) (fun x g1 h => z_out C hQ h)
    clear h; obtain ⟨v_13, rfl, zb_, h⟩ := hk_
    show GW X E 3 g_12 82 [(0, .ref a0), (1, .ref a1)] [.int v_13]
    intro H locs ls hR hS hl
    obtain ⟨h1, h2⟩ := h
    refine lv_if_eq (tgt := 89) C.x C.b dX7_isSame_82 (by decide) (fun c => ?_) (fun c => ?_)
    · have h := h1 c; clear h1 h2
      refine lv_iconst (v := 0) C.x C.b dX7_isSame_89 (by decide) ?_
      exact z_zret C hQ rfl dX7_isSame_90 h H locs ls hR hS hl
    · have h := h2 c; clear h1 h2
      refine lv_iconst (v := 1) C.x C.b dX7_isSame_85 (by decide) ?_
      refine lv_goto (tgt := 90) C.x C.b dX7_isSame_86 (by decide) ?_
      exact z_zret C hQ rfl dX7_isSame_90 h H locs ls hR hS hl
set_option maxHeartbeats 4000000 in
theorem mX7_isSame {X : zX} {d : Nat} {g : zG} {K : Option Value → zG → Prop} {KX : String → zG → Prop} (hok : zOk X) (a0 : Nat) (a1 : Nat) (h : ∀ E : zM, zC X (d + 1) E RX7 cX7_isSame 3 (some .boolean) "isSame" → zQ X E K KX → ∃ (k_2 : Nat) (fs_1 : List Value) (a_3 : Nat), zkc k_2 = 7 ∧ zGo g k_2 a0 = some fs_1 ∧ fs_1[0]? = some (.ref a_3) ∧ ∃ (k_5 : Nat) (fs_4 : List Value) (a_6 : Nat), zkc k_5 = 7 ∧ zGo g k_5 a1 = some fs_4 ∧ fs_4[0]? = some (.ref a_6) ∧ (¬ a_3 = a_6 → GW X E 3 g 37 [(0, .ref a0), (1, .ref a1)] []) ∧ (a_3 = a_6 → ∃ (k_8 : Nat) (fs_7 : List Value) (v_9 : Int32), zkc k_8 = 7 ∧ zGo g k_8 a0 = some fs_7 ∧ fs_7[1]? = some (.int v_9) ∧ ∃ (k_11 : Nat) (fs_10 : List Value) (v_12 : Int32), zkc k_11 = 7 ∧ zGo g k_11 a1 = some fs_10 ∧ fs_10[1]? = some (.int v_12) ∧ (¬ v_9 = v_12 → GW X E 3 g 37 [(0, .ref a0), (1, .ref a1)] []) ∧ (v_9 = v_12 → ∃ (k_14 : Nat) (fs_13 : List Value) (v_15 : Int32), zkc k_14 = 7 ∧ zGo g k_14 a0 = some fs_13 ∧ fs_13[2]? = some (.int v_15) ∧ ∃ (k_17 : Nat) (fs_16 : List Value) (v_18 : Int32), zkc k_17 = 7 ∧ zGo g k_17 a1 = some fs_16 ∧ fs_16[2]? = some (.int v_18) ∧ (¬ v_15 = v_18 → GW X E 3 g 37 [(0, .ref a0), (1, .ref a1)] []) ∧ (v_15 = v_18 → GW X E 3 g 38 [(0, .ref a0), (1, .ref a1)] [.int 1])))) : zCal X (d + 1) yX7_isSame wX7_isSame [.ref a0, .ref a1] g K KX := by
  refine z_enter hok pn_X7 (Nat.le_of_ble_eq_true rfl) (fun E C hQ => ?_)
  have C : zC X (d + 1) E RX7 cX7_isSame 3 (some .boolean) "isSame" := C
  have h := h E C hQ
  show GW X E 3 g 0 [(0, .ref a0), (1, .ref a1)] []
  intro H locs ls hR hS hl
  refine lv_aload_n C.x C.b dX7_isSame_0 rfl (lv_at hl 0 rfl) ?_
  obtain ⟨k_2, fs_1, a_3, q0, q1, q2, h⟩ := h
  refine z_get C hR q1 q0 (ci := 7) rfl in_X7 0 (by decide) q1248 (fun _ h => h) q2 dX7_isSame_1 ?_
  refine lv_aload_n C.x C.b dX7_isSame_4 rfl (lv_at hl 1 rfl) ?_
  obtain ⟨k_5, fs_4, a_6, q0, q1, q2, h⟩ := h
  refine z_get C hR q1 q0 (ci := 7) rfl in_X7 0 (by decide) q1248 (fun _ h => h) q2 dX7_isSame_5 ?_
  obtain ⟨h1, h2⟩ := h
  refine lv_acmp_ne (rx := (some a_3)) (ry := (some a_6)) (tgt := 37) C.x C.b dX7_isSame_8 (by decide) (fun c => ?_) (fun c => ?_)
  · have h := h1 (fun z => c (congrArg some z)); clear h1 h2
    exact h H locs ls hR hS (lv_sub hl [0, 1] rfl)
  · have h := h2 (Option.some.inj c); clear h1 h2
    refine lv_aload_n C.x C.b dX7_isSame_11 rfl (lv_at hl 0 rfl) ?_
    obtain ⟨k_8, fs_7, v_9, q0, q1, q2, h⟩ := h
    refine z_get C hR q1 q0 (ci := 7) rfl in_X7 1 (by decide) q1250 (fun _ h => h) q2 dX7_isSame_12 ?_
    refine lv_aload_n C.x C.b dX7_isSame_15 rfl (lv_at hl 1 rfl) ?_
    obtain ⟨k_11, fs_10, v_12, q0, q1, q2, h⟩ := h
    refine z_get C hR q1 q0 (ci := 7) rfl in_X7 1 (by decide) q1250 (fun _ h => h) q2 dX7_isSame_16 ?_
    obtain ⟨h1, h2⟩ := h
    refine lv_icmp_ne (tgt := 37) C.x C.b dX7_isSame_19 (by decide) (fun c => ?_) (fun c => ?_)
    · have h := h1 c; clear h1 h2
      exact h H locs ls hR hS (lv_sub hl [0, 1] rfl)
    · have h := h2 c; clear h1 h2
      refine lv_aload_n C.x C.b dX7_isSame_22 rfl (lv_at hl 0 rfl) ?_
      obtain ⟨k_14, fs_13, v_15, q0, q1, q2, h⟩ := h
      refine z_get C hR q1 q0 (ci := 7) rfl in_X7 2 (by decide) q1252 (fun _ h => h) q2 dX7_isSame_23 ?_
      refine lv_aload_n C.x C.b dX7_isSame_26 rfl (lv_at hl 1 rfl) ?_
      obtain ⟨k_17, fs_16, v_18, q0, q1, q2, h⟩ := h
      refine z_get C hR q1 q0 (ci := 7) rfl in_X7 2 (by decide) q1252 (fun _ h => h) q2 dX7_isSame_27 ?_
      obtain ⟨h1, h2⟩ := h
      refine lv_icmp_ne (tgt := 37) C.x C.b dX7_isSame_30 (by decide) (fun c => ?_) (fun c => ?_)
      · have h := h1 c; clear h1 h2
        exact h H locs ls hR hS (lv_sub hl [0, 1] rfl)
      · have h := h2 c; clear h1 h2
        refine lv_iconst (v := 1) C.x C.b dX7_isSame_33 (by decide) ?_
        refine lv_goto (tgt := 38) C.x C.b dX7_isSame_34 (by decide) ?_
        exact h H locs ls hR hS (lv_sub hl [0, 1] rfl)
set_option maxHeartbeats 4000000 in
theorem mX7_init {X : zX} {d : Nat} {g : zG} {K : Option Value → zG → Prop} {KX : String → zG → Prop} (hok : zOk X) (a0 : Nat) (a1 : Nat) (x2 : Int32) (x3 : Int32) (r4 : Option Nat) (r5 : Option Nat) (h : ∃ (k_3 : Nat) (fs_1 : List Value), zkc k_3 = 7 ∧ zGo g k_3 a0 = some fs_1 ∧ 0 < fs_1.length ∧ ∀ g_2 : zG, g_2 = zSo g k_3 a0 (fs_1.set 0 (.ref a1)) → ∃ (k_6 : Nat) (fs_4 : List Value), zkc k_6 = 7 ∧ zGo g_2 k_6 a0 = some fs_4 ∧ 1 < fs_4.length ∧ ∀ g_5 : zG, g_5 = zSo g_2 k_6 a0 (fs_4.set 1 (.int x2)) → ∃ (k_9 : Nat) (fs_7 : List Value), zkc k_9 = 7 ∧ zGo g_5 k_9 a0 = some fs_7 ∧ 2 < fs_7.length ∧ ∀ g_8 : zG, g_8 = zSo g_5 k_9 a0 (fs_7.set 2 (.int x3)) → ∃ (k_12 : Nat) (fs_10 : List Value), zkc k_12 = 7 ∧ zGo g_8 k_12 a0 = some fs_10 ∧ 3 < fs_10.length ∧ ∀ g_11 : zG, g_11 = zSo g_8 k_12 a0 (fs_10.set 3 (va_rf r4)) → ∃ (k_15 : Nat) (fs_13 : List Value), zkc k_15 = 7 ∧ zGo g_11 k_15 a0 = some fs_13 ∧ 4 < fs_13.length ∧ ∀ g_14 : zG, g_14 = zSo g_11 k_15 a0 (fs_13.set 4 (va_rf r5)) → (r4 = none → (r5 = none → ∃ (k_20 : Nat) (fs_18 : List Value), zkc k_20 = 7 ∧ zGo g_14 k_20 a0 = some fs_18 ∧ 5 < fs_18.length ∧ ∀ g_19 : zG, g_19 = zSo g_14 k_20 a0 (fs_18.set 5 (.int ((1 + 0) + 0))) → K none g_19) ∧ (∀ a_17 : Nat, r5 = some a_17 → ∃ (k_22 : Nat) (fs_21 : List Value) (v_23 : Int32), zkc k_22 = 7 ∧ zGo g_14 k_22 a_17 = some fs_21 ∧ fs_21[5]? = some (.int v_23) ∧ ∃ (k_26 : Nat) (fs_24 : List Value), zkc k_26 = 7 ∧ zGo g_14 k_26 a0 = some fs_24 ∧ 5 < fs_24.length ∧ ∀ g_25 : zG, g_25 = zSo g_14 k_26 a0 (fs_24.set 5 (.int ((1 + 0) + v_23))) → K none g_25)) ∧ (∀ a_16 : Nat, r4 = some a_16 → ∃ (k_28 : Nat) (fs_27 : List Value) (v_29 : Int32), zkc k_28 = 7 ∧ zGo g_14 k_28 a_16 = some fs_27 ∧ fs_27[5]? = some (.int v_29) ∧ (r5 = none → ∃ (k_33 : Nat) (fs_31 : List Value), zkc k_33 = 7 ∧ zGo g_14 k_33 a0 = some fs_31 ∧ 5 < fs_31.length ∧ ∀ g_32 : zG, g_32 = zSo g_14 k_33 a0 (fs_31.set 5 (.int ((1 + v_29) + 0))) → K none g_32) ∧ (∀ a_30 : Nat, r5 = some a_30 → ∃ (k_35 : Nat) (fs_34 : List Value) (v_36 : Int32), zkc k_35 = 7 ∧ zGo g_14 k_35 a_30 = some fs_34 ∧ fs_34[5]? = some (.int v_36) ∧ ∃ (k_39 : Nat) (fs_37 : List Value), zkc k_39 = 7 ∧ zGo g_14 k_39 a0 = some fs_37 ∧ 5 < fs_37.length ∧ ∀ g_38 : zG, g_38 = zSo g_14 k_39 a0 (fs_37.set 5 (.int ((1 + v_29) + v_36))) → K none g_38))) : zCal X (d + 1) yX7_init wX7_init [.ref a0, .ref a1, .int x2, .int x3, va_rf r4, va_rf r5] g K KX := by
  refine z_enter hok pn_X7 (by simp [lg_sl, zrf_cat, zc_r, zc_i, zc_n, zc_l]) (fun E C hQ => ?_)
  have C : zC X (d + 1) E RX7 cX7_init 6 none "<init>" := C
  rw [show lv_args 0 [.ref a0, .ref a1, .int x2, .int x3, va_rf r4, va_rf r5] = [(0, .ref a0), (1, .ref a1), (2, .int x2), (3, .int x3), (4, va_rf r4), (5, va_rf r5)] by simp [lv_args, zrf_cat, zc_r, zc_i, zc_n, zc_l]]
  intro H locs ls hR hS hl
  refine lv_aload_n C.x C.b dX7_init_0 rfl (lv_at hl 0 rfl) ?_
  refine z_objInit C hl q1247 (Nat.le_of_ble_eq_true rfl) dX7_init_1 ?_
  refine lv_aload_n C.x C.b dX7_init_4 rfl (lv_at hl 0 rfl) ?_
  refine lv_aload_n C.x C.b dX7_init_5 rfl (lv_at hl 1 rfl) ?_
  obtain ⟨k_3, fs_1, q0, q1, q2, h⟩ := h
  refine z_putF C hR hS q1 q0 (ci := 7) rfl in_X7 tyX7 tyX7_ok nmX7 0 (by decide) q1248 (fun _ h => h) rfl rfl rfl ⟨rfl, rfl⟩ q2 dX7_init_6 (fun H locs hR hS => ?_)
  have h := h _ rfl
  generalize zSo g k_3 a0 (fs_1.set 0 (.ref a1)) = g_2 at h hR
  refine lv_aload_n C.x C.b dX7_init_9 rfl (lv_at hl 0 rfl) ?_
  refine lv_iload_n C.x C.b dX7_init_10 rfl (lv_at hl 2 rfl) ?_
  obtain ⟨k_6, fs_4, q0, q1, q2, h⟩ := h
  refine z_putF C hR hS q1 q0 (ci := 7) rfl in_X7 tyX7 tyX7_ok nmX7 1 (by decide) q1250 (fun _ h => h) rfl rfl rfl ⟨rfl, rfl⟩ q2 dX7_init_11 (fun H locs hR hS => ?_)
  have h := h _ rfl
  generalize zSo g_2 k_6 a0 (fs_4.set 1 (.int x2)) = g_5 at h hR
  refine lv_aload_n C.x C.b dX7_init_14 rfl (lv_at hl 0 rfl) ?_
  refine lv_iload_n C.x C.b dX7_init_15 rfl (lv_at hl 3 rfl) ?_
  obtain ⟨k_9, fs_7, q0, q1, q2, h⟩ := h
  refine z_putF C hR hS q1 q0 (ci := 7) rfl in_X7 tyX7 tyX7_ok nmX7 2 (by decide) q1252 (fun _ h => h) rfl rfl rfl ⟨rfl, rfl⟩ q2 dX7_init_16 (fun H locs hR hS => ?_)
  have h := h _ rfl
  generalize zSo g_5 k_9 a0 (fs_7.set 2 (.int x3)) = g_8 at h hR
  refine lv_aload_n C.x C.b dX7_init_19 rfl (lv_at hl 0 rfl) ?_
  refine z_aload C.x C.b dX7_init_20 (lv_at hl 4 rfl) ?_
  obtain ⟨k_12, fs_10, q0, q1, q2, h⟩ := h
  refine z_putF C hR hS q1 q0 (ci := 7) rfl in_X7 tyX7 tyX7_ok nmX7 3 (by decide) q1254 (fun _ h => h) rfl rfl rfl (zrf_o _) q2 dX7_init_22 (fun H locs hR hS => ?_)
  have h := h _ rfl
  generalize zSo g_8 k_12 a0 (fs_10.set 3 (va_rf r4)) = g_11 at h hR
  refine lv_aload_n C.x C.b dX7_init_25 rfl (lv_at hl 0 rfl) ?_
  refine z_aload C.x C.b dX7_init_26 (lv_at hl 5 rfl) ?_
  obtain ⟨k_15, fs_13, q0, q1, q2, h⟩ := h
  refine z_putF C hR hS q1 q0 (ci := 7) rfl in_X7 tyX7 tyX7_ok nmX7 4 (by decide) q1256 (fun _ h => h) rfl rfl rfl (zrf_o _) q2 dX7_init_28 (fun H locs hR hS => ?_)
  have h := h _ rfl
  generalize zSo g_11 k_15 a0 (fs_13.set 4 (va_rf r5)) = g_14 at h hR
  refine lv_aload_n C.x C.b dX7_init_31 rfl (lv_at hl 0 rfl) ?_
  refine lv_iconst (v := 1) C.x C.b dX7_init_32 (by decide) ?_
  refine z_aload C.x C.b dX7_init_33 (lv_at hl 4 rfl) ?_
  obtain ⟨h1, h2⟩ := h
  cases r4 with
  | none =>
    have h := h1 rfl; clear h1 h2
    have hl : lv_has ls 6 [(0, .ref a0), (1, .ref a1), (2, .int x2), (3, .int x3), (4, .null), (5, va_rf r5)] := by assumption
    refine lv_ifnonnullN C.x C.b dX7_init_35 ?_
    refine lv_iconst (v := 0) C.x C.b dX7_init_38 (by decide) ?_
    refine lv_goto (tgt := 47) C.x C.b dX7_init_39 (by decide) ?_
    refine lv_iadd C.x C.b dX7_init_47 ?_
    refine z_aload C.x C.b dX7_init_48 (lv_at hl 5 rfl) ?_
    obtain ⟨h1, h2⟩ := h
    cases r5 with
    | none =>
      have h := h1 rfl; clear h1 h2
      have hl : lv_has ls 6 [(0, .ref a0), (1, .ref a1), (2, .int x2), (3, .int x3), (4, .null), (5, .null)] := by assumption
      refine lv_ifnonnullN C.x C.b dX7_init_50 ?_
      refine lv_iconst (v := 0) C.x C.b dX7_init_53 (by decide) ?_
      refine lv_goto (tgt := 62) C.x C.b dX7_init_54 (by decide) ?_
      refine lv_iadd C.x C.b dX7_init_62 ?_
      obtain ⟨k_20, fs_18, q0, q1, q2, h⟩ := h
      refine z_putF C hR hS q1 q0 (ci := 7) rfl in_X7 tyX7 tyX7_ok nmX7 5 (by decide) q1258 (fun _ h => h) rfl rfl rfl ⟨rfl, rfl⟩ q2 dX7_init_63 (fun H locs hR hS => ?_)
      have h := h _ rfl
      generalize zSo g_14 k_20 a0 (fs_18.set 5 (.int ((1 + 0) + 0))) = g_19 at h hR
      exact z_vret C hQ dX7_init_66 h H locs ls hR hS hl
    | some a_17 =>
      have h := h2 _ rfl; clear h1 h2
      have hl : lv_has ls 6 [(0, .ref a0), (1, .ref a1), (2, .int x2), (3, .int x3), (4, .null), (5, .ref a_17)] := by assumption
      refine lv_ifnonnull (tgt := 57) C.x C.b dX7_init_50 (by decide) ?_
      refine lv_aload C.x C.b dX7_init_57 (lv_at hl 5 rfl) ?_
      obtain ⟨k_22, fs_21, v_23, q0, q1, q2, h⟩ := h
      refine z_get C hR q1 q0 (ci := 7) rfl in_X7 5 (by decide) q1258 (fun _ h => h) q2 dX7_init_59 ?_
      refine lv_iadd C.x C.b dX7_init_62 ?_
      obtain ⟨k_26, fs_24, q0, q1, q2, h⟩ := h
      refine z_putF C hR hS q1 q0 (ci := 7) rfl in_X7 tyX7 tyX7_ok nmX7 5 (by decide) q1258 (fun _ h => h) rfl rfl rfl ⟨rfl, rfl⟩ q2 dX7_init_63 (fun H locs hR hS => ?_)
      have h := h _ rfl
      generalize zSo g_14 k_26 a0 (fs_24.set 5 (.int ((1 + 0) + v_23))) = g_25 at h hR
      exact z_vret C hQ dX7_init_66 h H locs ls hR hS hl
  | some a_16 =>
    have h := h2 _ rfl; clear h1 h2
    have hl : lv_has ls 6 [(0, .ref a0), (1, .ref a1), (2, .int x2), (3, .int x3), (4, .ref a_16), (5, va_rf r5)] := by assumption
    refine lv_ifnonnull (tgt := 42) C.x C.b dX7_init_35 (by decide) ?_
    refine lv_aload C.x C.b dX7_init_42 (lv_at hl 4 rfl) ?_
    obtain ⟨k_28, fs_27, v_29, q0, q1, q2, h⟩ := h
    refine z_get C hR q1 q0 (ci := 7) rfl in_X7 5 (by decide) q1258 (fun _ h => h) q2 dX7_init_44 ?_
    refine lv_iadd C.x C.b dX7_init_47 ?_
    refine z_aload C.x C.b dX7_init_48 (lv_at hl 5 rfl) ?_
    obtain ⟨h1, h2⟩ := h
    cases r5 with
    | none =>
      have h := h1 rfl; clear h1 h2
      have hl : lv_has ls 6 [(0, .ref a0), (1, .ref a1), (2, .int x2), (3, .int x3), (4, .ref a_16), (5, .null)] := by assumption
      refine lv_ifnonnullN C.x C.b dX7_init_50 ?_
      refine lv_iconst (v := 0) C.x C.b dX7_init_53 (by decide) ?_
      refine lv_goto (tgt := 62) C.x C.b dX7_init_54 (by decide) ?_
      refine lv_iadd C.x C.b dX7_init_62 ?_
      obtain ⟨k_33, fs_31, q0, q1, q2, h⟩ := h
      refine z_putF C hR hS q1 q0 (ci := 7) rfl in_X7 tyX7 tyX7_ok nmX7 5 (by decide) q1258 (fun _ h => h) rfl rfl rfl ⟨rfl, rfl⟩ q2 dX7_init_63 (fun H locs hR hS => ?_)
      have h := h _ rfl
      generalize zSo g_14 k_33 a0 (fs_31.set 5 (.int ((1 + v_29) + 0))) = g_32 at h hR
      exact z_vret C hQ dX7_init_66 h H locs ls hR hS hl
    | some a_30 =>
      have h := h2 _ rfl; clear h1 h2
      have hl : lv_has ls 6 [(0, .ref a0), (1, .ref a1), (2, .int x2), (3, .int x3), (4, .ref a_16), (5, .ref a_30)] := by assumption
      refine lv_ifnonnull (tgt := 57) C.x C.b dX7_init_50 (by decide) ?_
      refine lv_aload C.x C.b dX7_init_57 (lv_at hl 5 rfl) ?_
      obtain ⟨k_35, fs_34, v_36, q0, q1, q2, h⟩ := h
      refine z_get C hR q1 q0 (ci := 7) rfl in_X7 5 (by decide) q1258 (fun _ h => h) q2 dX7_init_59 ?_
      refine lv_iadd C.x C.b dX7_init_62 ?_
      obtain ⟨k_39, fs_37, q0, q1, q2, h⟩ := h
      refine z_putF C hR hS q1 q0 (ci := 7) rfl in_X7 tyX7 tyX7_ok nmX7 5 (by decide) q1258 (fun _ h => h) rfl rfl rfl ⟨rfl, rfl⟩ q2 dX7_init_63 (fun H locs hR hS => ?_)
      have h := h _ rfl
      generalize zSo g_14 k_39 a0 (fs_37.set 5 (.int ((1 + v_29) + v_36))) = g_38 at h hR
      exact z_vret C hQ dX7_init_66 h H locs ls hR hS hl
theorem hdF_J2_add : (yJ2_add.name = (⟨"java/util/List", "add", "(Ljava/lang/Object;)Z"⟩ : MethodName).name ∧ yJ2_add.desc = (⟨"java/util/List", "add", "(Ljava/lang/Object;)Z"⟩ : MethodName).desc) ∧ (⟨"java/util/List", "add", "(Ljava/lang/Object;)Z"⟩ : MethodName).cls ≠ "java/lang/invoke/MethodHandle" ∧ (⟨"java/util/List", "add", "(Ljava/lang/Object;)Z"⟩ : MethodName).cls ≠ "java/lang/invoke/VarHandle" ∧ (parseMethodDescriptor (⟨"java/util/List", "add", "(Ljava/lang/Object;)Z"⟩ : MethodName).desc).map (fun d => d.parameters.length) = some 1 := by decide +kernel
theorem hdF_J2_size : (yJ2_size.name = (⟨"java/util/List", "size", "()I"⟩ : MethodName).name ∧ yJ2_size.desc = (⟨"java/util/List", "size", "()I"⟩ : MethodName).desc) ∧ (⟨"java/util/List", "size", "()I"⟩ : MethodName).cls ≠ "java/lang/invoke/MethodHandle" ∧ (⟨"java/util/List", "size", "()I"⟩ : MethodName).cls ≠ "java/lang/invoke/VarHandle" ∧ (parseMethodDescriptor (⟨"java/util/List", "size", "()I"⟩ : MethodName).desc).map (fun d => d.parameters.length) = some 0 := by decide +kernel
theorem hdV_X7_collect : yX7_collect.cls = RX7 ∧ yX7_collect.cls ≠ "java/lang/invoke/MethodHandle" ∧ yX7_collect.cls ≠ "java/lang/invoke/VarHandle" ∧ (parseMethodDescriptor yX7_collect.desc).map (fun d => d.parameters.length) = some 1 := by decide +kernel
set_option maxHeartbeats 4000000 in
theorem bX7_collect_15 {X : zX} {d : Nat} {E : zM} {K : Option Value → zG → Prop} {KX : String → zG → Prop} (C : zC X (d + 1) E RX7 cX7_collect 2 none "collect") (hQ : zQ X E K KX) (g : zG) (a0 : Nat) (a1 : Nat) (h : ∃ (k_2 : Nat) (fs_1 : List Value) (r_3 : Option Nat), zkc k_2 = 7 ∧ zGo g k_2 a0 = some fs_1 ∧ fs_1[4]? = some (va_rf r_3) ∧ (r_3 = none → GW X E 2 g 30 [(0, .ref a0), (1, .ref a1)] []) ∧ (∀ a_4 : Nat, r_3 = some a_4 → ∃ (k_6 : Nat) (fs_5 : List Value) (r_7 : Option Nat), zkc k_6 = 7 ∧ zGo g k_6 a0 = some fs_5 ∧ fs_5[4]? = some (va_rf r_7) ∧ ∃ a_8 : Nat, r_7 = some a_8 ∧ zIs g 7 a_8 ∧ zCal X d yX7_collect wX7_collect [.ref a_8, .ref a1] g (fun r g_9 => r = none ∧ GW X E 2 g_9 30 [(0, .ref a0), (1, .ref a1)] []) KX)) : GW X E 2 g 15 [(0, .ref a0), (1, .ref a1)] [] := by
  intro H locs ls hR hS hl
  refine lv_aload_n C.x C.b dX7_collect_15 rfl (lv_at hl 0 rfl) ?_
  obtain ⟨k_2, fs_1, r_3, q0, q1, q2, h⟩ := h
  refine z_get C hR q1 q0 (ci := 7) rfl in_X7 4 (by decide) q1256 (fun _ h => h) q2 dX7_collect_16 ?_
  obtain ⟨h1, h2⟩ := h
  cases r_3 with
  | none =>
    have h := h1 rfl; clear h1 h2
    have hl : lv_has ls 2 [(0, .ref a0), (1, .ref a1)] := by assumption
    refine lv_ifnullN (tgt := 30) C.x C.b dX7_collect_19 (by decide) ?_
    exact h H locs ls hR hS (lv_sub hl [0, 1] rfl)
  | some a_4 =>
    have h := h2 _ rfl; clear h1 h2
    have hl : lv_has ls 2 [(0, .ref a0), (1, .ref a1)] := by assumption
    refine lv_ifnull C.x C.b dX7_collect_19 ?_
    refine lv_aload_n C.x C.b dX7_collect_22 rfl (lv_at hl 0 rfl) ?_
    obtain ⟨k_6, fs_5, r_7, q0, q1, q2, h⟩ := h
    refine z_get C hR q1 q0 (ci := 7) rfl in_X7 4 (by decide) q1256 (fun _ h => h) q2 dX7_collect_23 ?_
    refine lv_aload_n C.x C.b dX7_collect_26 rfl (lv_at hl 1 rfl) ?_
    obtain ⟨a_8, e_, h⟩ := h; subst e_
    have hl : lv_has ls 2 [(0, .ref a0), (1, .ref a1)] := by assumption
    show zV X E H locs (F0 (zm E) 27 ls [.ref a1, .ref a_8])
    refine z_callV C hR hS hl (n := 1) (C1 := RX7) (T := TX7) (N := 7) (ci := 7) (y := yX7_collect) (bytes := cX7_collect) (maxL := 2) (rt := none) (As := [.ref a1]) (rest := []) h.1 rfl (lw_V q1405 q1402 q1403 q106 q1404) hdV_X7_collect (by decide) rfl rfl (Nat.le_of_ble_eq_true rfl) dX7_collect_27 h.2 (fun r g_9 hk_ => ?_) (fun x g1 h => z_out C hQ h)
    clear h; obtain ⟨rfl, h⟩ := hk_
    show GW X E 2 g_9 30 [(0, .ref a0), (1, .ref a1)] []
    intro H locs ls hR hS hl
    exact h H locs ls hR hS (lv_sub hl [0, 1] rfl)
set_option maxHeartbeats 4000000 in
theorem bX7_collect_30 {X : zX} {d : Nat} {E : zM} {K : Option Value → zG → Prop} {KX : String → zG → Prop} (C : zC X (d + 1) E RX7 cX7_collect 2 none "collect") (hQ : zQ X E K KX) (g : zG) (a0 : Nat) (a1 : Nat) (h : zIs g 0 a1 ∧ zCal X d yJ2_size wJ2_size [.ref a1] g (fun r g_1 => ∃ v_2 : Int32, r = some (.int v_2) ∧ ∃ (k_5 : Nat) (fs_3 : List Value), zkc k_5 = 7 ∧ zGo g_1 k_5 a0 = some fs_3 ∧ 6 < fs_3.length ∧ ∀ g_4 : zG, g_4 = zSo g_1 k_5 a0 (fs_3.set 6 (.int v_2)) → zIs g_4 0 a1 ∧ zCal X d yJ2_add wJ2_add [.ref a1, .ref a0] g_4 (fun r g_6 => ∃ v_7 : Int32, r = some (.int v_7) ∧ zbo v_7 ∧ K none g_6) KX) KX) : GW X E 2 g 30 [(0, .ref a0), (1, .ref a1)] [] := by
  intro H locs ls hR hS hl
  refine lv_aload_n C.x C.b dX7_collect_30 rfl (lv_at hl 0 rfl) ?_
  refine lv_aload_n C.x C.b dX7_collect_31 rfl (lv_at hl 1 rfl) ?_
  refine z_callF C hR hS hl (n := 0) (C1 := RJ2) (T := TJ2) (N := 3) (ci := 0) (y := yJ2_size) (bytes := cJ2_size) (maxL := 1) (rt := (some .int)) (As := []) (rest := [.ref a0]) (x := ⟨"java/util/List", "size", "()I"⟩) h.1 rfl (lw_F q1407 q294 q296 q76 q298) ⟨C.ok.2.1 _ q293, C.ok.2.1 _ q292, C.ok.2.1 _ q297, C.ok.2.1 _ q295, C.ok.2.1 _ q174⟩ hdF_J2_size (by decide) rfl rfl (Nat.le_of_ble_eq_true rfl) dX7_collect_32 h.2 (fun r g_1 hk_ => ?_) (fun x g1 h => z_out C hQ h)
  clear h; obtain ⟨v_2, rfl, h⟩ := hk_
  show GW X E 2 g_1 37 [(0, .ref a0), (1, .ref a1)] [.int v_2, .ref a0]
  intro H locs ls hR hS hl
  obtain ⟨k_5, fs_3, q0, q1, q2, h⟩ := h
  refine z_put C hR hS q1 q0 (ci := 7) rfl in_X7 tyX7 tyX7_ok nmX7 6 (by decide) q1260 (fun _ h => h) rfl ⟨rfl, rfl⟩ q2 dX7_collect_37 (fun H locs hR hS => ?_)
  have h := h _ rfl
  generalize zSo g_1 k_5 a0 (fs_3.set 6 (.int v_2)) = g_4 at h hR
  refine lv_aload_n C.x C.b dX7_collect_40 rfl (lv_at hl 1 rfl) ?_
  refine lv_aload_n C.x C.b dX7_collect_41 rfl (lv_at hl 0 rfl) ?_
  refine z_callF C hR hS hl (n := 1) (C1 := RJ2) (T := TJ2) (N := 3) (ci := 0) (y := yJ2_add) (bytes := cJ2_add) (maxL := 2) (rt := (some .boolean)) (As := [.ref a0]) (rest := []) (x := ⟨"java/util/List", "add", "(Ljava/lang/Object;)Z"⟩) h.1 rfl (lw_F q1409 q175 q177 q76 q179) ⟨C.ok.2.1 _ q173, C.ok.2.1 _ q172, C.ok.2.1 _ q178, C.ok.2.1 _ q176, C.ok.2.1 _ q174⟩ hdF_J2_add (by decide) rfl rfl (Nat.le_of_ble_eq_true rfl) dX7_collect_42 h.2 (fun r g_6 hk_ => ?_) (fun x g1 h => z_out C hQ h)
  clear h; obtain ⟨v_7, rfl, zb_, h⟩ := hk_
  show GW X E 2 g_6 47 [(0, .ref a0), (1, .ref a1)] [.int v_7]
  intro H locs ls hR hS hl
  refine lv_pop C.x C.b dX7_collect_47 rfl ?_
  exact z_vret C hQ dX7_collect_48 h H locs ls hR hS hl
set_option maxHeartbeats 4000000 in
theorem mX7_collect {X : zX} {d : Nat} {g : zG} {K : Option Value → zG → Prop} {KX : String → zG → Prop} (hok : zOk X) (a0 : Nat) (a1 : Nat) (h : ∀ E : zM, zC X (d + 1) E RX7 cX7_collect 2 none "collect" → zQ X E K KX → ∃ (k_2 : Nat) (fs_1 : List Value) (r_3 : Option Nat), zkc k_2 = 7 ∧ zGo g k_2 a0 = some fs_1 ∧ fs_1[3]? = some (va_rf r_3) ∧ (r_3 = none → GW X E 2 g 15 [(0, .ref a0), (1, .ref a1)] []) ∧ (∀ a_4 : Nat, r_3 = some a_4 → ∃ (k_6 : Nat) (fs_5 : List Value) (r_7 : Option Nat), zkc k_6 = 7 ∧ zGo g k_6 a0 = some fs_5 ∧ fs_5[3]? = some (va_rf r_7) ∧ ∃ a_8 : Nat, r_7 = some a_8 ∧ zIs g 7 a_8 ∧ zCal X d yX7_collect wX7_collect [.ref a_8, .ref a1] g (fun r g_9 => r = none ∧ GW X E 2 g_9 15 [(0, .ref a0), (1, .ref a1)] []) KX)) : zCal X (d + 1) yX7_collect wX7_collect [.ref a0, .ref a1] g K KX := by
  refine z_enter hok pn_X7 (Nat.le_of_ble_eq_true rfl) (fun E C hQ => ?_)
  have C : zC X (d + 1) E RX7 cX7_collect 2 none "collect" := C
  have h := h E C hQ
  show GW X E 2 g 0 [(0, .ref a0), (1, .ref a1)] []
  intro H locs ls hR hS hl
  refine lv_aload_n C.x C.b dX7_collect_0 rfl (lv_at hl 0 rfl) ?_
  obtain ⟨k_2, fs_1, r_3, q0, q1, q2, h⟩ := h
  refine z_get C hR q1 q0 (ci := 7) rfl in_X7 3 (by decide) q1254 (fun _ h => h) q2 dX7_collect_1 ?_
  obtain ⟨h1, h2⟩ := h
  cases r_3 with
  | none =>
    have h := h1 rfl; clear h1 h2
    have hl : lv_has ls 2 [(0, .ref a0), (1, .ref a1)] := by assumption
    refine lv_ifnullN (tgt := 15) C.x C.b dX7_collect_4 (by decide) ?_
    exact h H locs ls hR hS (lv_sub hl [0, 1] rfl)
  | some a_4 =>
    have h := h2 _ rfl; clear h1 h2
    have hl : lv_has ls 2 [(0, .ref a0), (1, .ref a1)] := by assumption
    refine lv_ifnull C.x C.b dX7_collect_4 ?_
    refine lv_aload_n C.x C.b dX7_collect_7 rfl (lv_at hl 0 rfl) ?_
    obtain ⟨k_6, fs_5, r_7, q0, q1, q2, h⟩ := h
    refine z_get C hR q1 q0 (ci := 7) rfl in_X7 3 (by decide) q1254 (fun _ h => h) q2 dX7_collect_8 ?_
    refine lv_aload_n C.x C.b dX7_collect_11 rfl (lv_at hl 1 rfl) ?_
    obtain ⟨a_8, e_, h⟩ := h; subst e_
    have hl : lv_has ls 2 [(0, .ref a0), (1, .ref a1)] := by assumption
    show zV X E H locs (F0 (zm E) 12 ls [.ref a1, .ref a_8])
    refine z_callV C hR hS hl (n := 1) (C1 := RX7) (T := TX7) (N := 7) (ci := 7) (y := yX7_collect) (bytes := cX7_collect) (maxL := 2) (rt := none) (As := [.ref a1]) (rest := []) h.1 rfl (lw_V q1405 q1402 q1403 q106 q1404) hdV_X7_collect (by decide) rfl rfl (Nat.le_of_ble_eq_true rfl) dX7_collect_12 h.2 (fun r g_9 hk_ => ?_) (fun x g1 h => z_out C hQ h)
    clear h; obtain ⟨rfl, h⟩ := hk_
    show GW X E 2 g_9 15 [(0, .ref a0), (1, .ref a1)] []
    intro H locs ls hR hS hl
    exact h H locs ls hR hS (lv_sub hl [0, 1] rfl)
theorem hdV_X7_looks : yX7_looks.cls = RX7 ∧ yX7_looks.cls ≠ "java/lang/invoke/MethodHandle" ∧ yX7_looks.cls ≠ "java/lang/invoke/VarHandle" ∧ (parseMethodDescriptor yX7_looks.desc).map (fun d => d.parameters.length) = some 1 := by decide +kernel
set_option maxHeartbeats 4000000 in
theorem bX7_looks_19 {X : zX} {d : Nat} {E : zM} {K : Option Value → zG → Prop} {KX : String → zG → Prop} (C : zC X (d + 1) E RX7 cX7_looks 9 (some .int) "looks") (hQ : zQ X E K KX) (g : zG) (a0 : Nat) (x1 : Int32) (t0 : Int32) (h : ∃ (k_2 : Nat) (fs_1 : List Value) (r_3 : Option Nat), zkc k_2 = 7 ∧ zGo g k_2 a0 = some fs_1 ∧ fs_1[4]? = some (va_rf r_3) ∧ (r_3 = none → GW X E 9 g 39 [(0, .ref a0), (1, .int x1), (2, .int t0)] [.int 0]) ∧ (∀ a_4 : Nat, r_3 = some a_4 → ∃ (k_6 : Nat) (fs_5 : List Value) (r_7 : Option Nat), zkc k_6 = 7 ∧ zGo g k_6 a0 = some fs_5 ∧ fs_5[4]? = some (va_rf r_7) ∧ ∃ a_8 : Nat, r_7 = some a_8 ∧ zIs g 7 a_8 ∧ zCal X d yX7_looks wX7_looks [.ref a_8, .int x1] g (fun r g_9 => ∃ v_10 : Int32, r = some (.int v_10) ∧ GW X E 9 g_9 39 [(0, .ref a0), (1, .int x1), (2, .int t0)] [.int v_10]) KX)) : GW X E 9 g 19 [(0, .ref a0), (1, .int x1)] [.int t0] := by
  intro H locs ls hR hS hl
  refine lv_istore_n (lv' := [(2, .int t0), (0, .ref a0), (1, .int x1)]) C.x C.b dX7_looks_19 rfl hl (by decide) rfl (fun ls hl => ?_)
  refine lv_aload_n C.x C.b dX7_looks_20 rfl (lv_at hl 1 rfl) ?_
  obtain ⟨k_2, fs_1, r_3, q0, q1, q2, h⟩ := h
  refine z_get C hR q1 q0 (ci := 7) rfl in_X7 4 (by decide) q1256 (fun _ h => h) q2 dX7_looks_21 ?_
  obtain ⟨h1, h2⟩ := h
  cases r_3 with
  | none =>
    have h := h1 rfl; clear h1 h2
    have hl : lv_has ls 9 [(2, .int t0), (0, .ref a0), (1, .int x1)] := by assumption
    refine lv_ifnonnullN C.x C.b dX7_looks_24 ?_
    refine lv_iconst (v := 0) C.x C.b dX7_looks_27 (by decide) ?_
    refine lv_goto (tgt := 39) C.x C.b dX7_looks_28 (by decide) ?_
    exact h H locs ls hR hS (lv_sub hl [1, 2, 0] rfl)
  | some a_4 =>
    have h := h2 _ rfl; clear h1 h2
    have hl : lv_has ls 9 [(2, .int t0), (0, .ref a0), (1, .int x1)] := by assumption
    refine lv_ifnonnull (tgt := 31) C.x C.b dX7_looks_24 (by decide) ?_
    refine lv_aload_n C.x C.b dX7_looks_31 rfl (lv_at hl 1 rfl) ?_
    obtain ⟨k_6, fs_5, r_7, q0, q1, q2, h⟩ := h
    refine z_get C hR q1 q0 (ci := 7) rfl in_X7 4 (by decide) q1256 (fun _ h => h) q2 dX7_looks_32 ?_
    refine lv_iload_n C.x C.b dX7_looks_35 rfl (lv_at hl 2 rfl) ?_
    obtain ⟨a_8, e_, h⟩ := h; subst e_
    have hl : lv_has ls 9 [(2, .int t0), (0, .ref a0), (1, .int x1)] := by assumption
    show zV X E H locs (F0 (zm E) 36 ls [.int x1, .ref a_8])
    refine z_callV C hR hS hl (n := 1) (C1 := RX7) (T := TX7) (N := 7) (ci := 7) (y := yX7_looks) (bytes := cX7_looks) (maxL := 9) (rt := (some .int)) (As := [.int x1]) (rest := []) h.1 rfl (lw_V q1566 q1563 q1564 q106 q1565) hdV_X7_looks (by decide) rfl rfl (Nat.le_of_ble_eq_true rfl) dX7_looks_36 h.2 (fun r g_9 hk_ => ?_) (fun x g1 h => z_out C hQ h)
    clear h; obtain ⟨v_10, rfl, h⟩ := hk_
    show GW X E 9 g_9 39 [(2, .int t0), (0, .ref a0), (1, .int x1)] [.int v_10]
    intro H locs ls hR hS hl
    exact h H locs ls hR hS (lv_sub hl [1, 2, 0] rfl)
set_option maxHeartbeats 4000000 in
theorem bX7_looks_39 {X : zX} {d : Nat} {E : zM} {K : Option Value → zG → Prop} {KX : String → zG → Prop} (C : zC X (d + 1) E RX7 cX7_looks 9 (some .int) "looks") (hQ : zQ X E K KX) (g : zG) (a0 : Nat) (x1 : Int32) (x2 : Int32) (t0 : Int32) (h : (x2 = (-1) → GW X E 9 g 50 [(0, .ref a0), (1, .int x1)] []) ∧ (¬ x2 = (-1) → (¬ t0 = (-1) → zCal X d yJ4_max wJ4_max [.int x2, .int t0] g (fun r g_1 => ∃ v_2 : Int32, r = some (.int v_2) ∧ GW X E 9 g_1 59 [(0, .ref a0), (1, .int x1)] [.int v_2]) KX) ∧ (t0 = (-1) → GW X E 9 g 50 [(0, .ref a0), (1, .int x1)] []))) : GW X E 9 g 39 [(0, .ref a0), (1, .int x1), (2, .int x2)] [.int t0] := by
  intro H locs ls hR hS hl
  refine lv_istore_n (lv' := [(3, .int t0), (0, .ref a0), (1, .int x1), (2, .int x2)]) C.x C.b dX7_looks_39 rfl hl (by decide) rfl (fun ls hl => ?_)
  refine lv_iload_n C.x C.b dX7_looks_40 rfl (lv_at hl 3 rfl) ?_
  refine lv_iconst (v := (-1)) C.x C.b dX7_looks_41 (by decide) ?_
  obtain ⟨h1, h2⟩ := h
  refine lv_icmp_eq (tgt := 50) C.x C.b dX7_looks_42 (by decide) (fun c => ?_) (fun c => ?_)
  · have h := h1 c; clear h1 h2
    exact h H locs ls hR hS (lv_sub hl [1, 2] rfl)
  · have h := h2 c; clear h1 h2
    refine lv_iload_n C.x C.b dX7_looks_45 rfl (lv_at hl 0 rfl) ?_
    refine lv_iconst (v := (-1)) C.x C.b dX7_looks_46 (by decide) ?_
    obtain ⟨h1, h2⟩ := h
    refine lv_icmp_ne (tgt := 54) C.x C.b dX7_looks_47 (by decide) (fun c => ?_) (fun c => ?_)
    · have h := h1 c; clear h1 h2
      refine lv_iload_n C.x C.b dX7_looks_54 rfl (lv_at hl 3 rfl) ?_
      refine lv_iload_n C.x C.b dX7_looks_55 rfl (lv_at hl 0 rfl) ?_
      refine z_callS C hR hS hl (n := 2) (y := yJ4_max) (bytes := cJ4_max) (maxL := 2) (rt := (some .int)) (As := [.int x2, .int t0]) (rest := []) (lw_S q1567 q196 q79 q197) hdS_J4_max (by decide) rfl rfl (Nat.le_of_ble_eq_true rfl) dX7_looks_56 h (fun r g_1 hk_ => ?_) (fun x g1 h => z_out C hQ h)
      clear h; obtain ⟨v_2, rfl, h⟩ := hk_
      show GW X E 9 g_1 59 [(3, .int t0), (0, .ref a0), (1, .int x1), (2, .int x2)] [.int v_2]
      intro H locs ls hR hS hl
      exact h H locs ls hR hS (lv_sub hl [1, 2] rfl)
    · have h := h2 c; clear h1 h2
      exact h H locs ls hR hS (lv_sub hl [1, 2] rfl)
set_option maxHeartbeats 4000000 in
theorem bX7_looks_50 {X : zX} {d : Nat} {E : zM} {K : Option Value → zG → Prop} {KX : String → zG → Prop} (C : zC X (d + 1) E RX7 cX7_looks 9 (some .int) "looks") (hQ : zQ X E K KX) (g : zG) (a0 : Nat) (x1 : Int32) (h : GW X E 9 g 59 [(0, .ref a0), (1, .int x1)] [.int (-1)]) : GW X E 9 g 50 [(0, .ref a0), (1, .int x1)] [] := by
  intro H locs ls hR hS hl
  refine lv_iconst (v := (-1)) C.x C.b dX7_looks_50 (by decide) ?_
  refine lv_goto (tgt := 59) C.x C.b dX7_looks_51 (by decide) ?_
  exact h H locs ls hR hS (lv_sub hl [0, 1] rfl)
set_option maxHeartbeats 4000000 in
theorem bX7_looks_59 {X : zX} {d : Nat} {E : zM} {K : Option Value → zG → Prop} {KX : String → zG → Prop} (C : zC X (d + 1) E RX7 cX7_looks 9 (some .int) "looks") (hQ : zQ X E K KX) (g : zG) (a0 : Nat) (x1 : Int32) (t0 : Int32) (h : ∃ (k_2 : Nat) (fs_1 : List Value) (a_3 : Nat), zkc k_2 = 7 ∧ zGo g k_2 a0 = some fs_1 ∧ fs_1[0]? = some (.ref a_3) ∧ (x1 = 0 → GW X E 9 g 78 [(0, .ref a0), (1, .int x1), (4, .int t0)] [.ref (zE X 5), .ref a_3]) ∧ (¬ x1 = 0 → GW X E 9 g 78 [(0, .ref a0), (1, .int x1), (4, .int t0)] [.ref (zE X 8), .ref a_3])) : GW X E 9 g 59 [(0, .ref a0), (1, .int x1)] [.int t0] := by
  intro H locs ls hR hS hl
  refine lv_istore (lv' := [(4, .int t0), (0, .ref a0), (1, .int x1)]) C.x C.b dX7_looks_59 hl (by decide) rfl (fun ls hl => ?_)
  refine lv_aload_n C.x C.b dX7_looks_61 rfl (lv_at hl 1 rfl) ?_
  obtain ⟨k_2, fs_1, a_3, q0, q1, q2, h⟩ := h
  refine z_get C hR q1 q0 (ci := 7) rfl in_X7 0 (by decide) q1248 (fun _ h => h) q2 dX7_looks_62 ?_
  refine lv_iload_n C.x C.b dX7_looks_65 rfl (lv_at hl 2 rfl) ?_
  obtain ⟨h1, h2⟩ := h
  refine lv_if_eq (tgt := 75) C.x C.b dX7_looks_66 (by decide) (fun c => ?_) (fun c => ?_)
  · have h := h1 c; clear h1 h2
    refine z_getsE C hS 5 (by decide) q1569 dX7_looks_75 ?_
    exact h H locs ls hR hS (lv_sub hl [1, 2, 0] rfl)
  · have h := h2 c; clear h1 h2
    refine z_getsE C hS 8 (by decide) q1568 dX7_looks_69 ?_
    refine lv_goto (tgt := 78) C.x C.b dX7_looks_72 (by decide) ?_
    exact h H locs ls hR hS (lv_sub hl [1, 2, 0] rfl)
set_option maxHeartbeats 4000000 in
theorem bX7_looks_78 {X : zX} {d : Nat} {E : zM} {K : Option Value → zG → Prop} {KX : String → zG → Prop} (C : zC X (d + 1) E RX7 cX7_looks 9 (some .int) "looks") (hQ : zQ X E K KX) (g : zG) (a0 : Nat) (x1 : Int32) (x4 : Int32) (b0 : Nat) (b1 : Nat) (h : (¬ b0 = b1 → GW X E 9 g 86 [(0, .ref a0), (1, .int x1), (4, .int x4)] [.int 0]) ∧ (b0 = b1 → GW X E 9 g 86 [(0, .ref a0), (1, .int x1), (4, .int x4)] [.int 1])) : GW X E 9 g 78 [(0, .ref a0), (1, .int x1), (4, .int x4)] [.ref b1, .ref b0] := by
  intro H locs ls hR hS hl
  obtain ⟨h1, h2⟩ := h
  refine lv_acmp_ne (rx := (some b0)) (ry := (some b1)) (tgt := 85) C.x C.b dX7_looks_78 (by decide) (fun c => ?_) (fun c => ?_)
  · have h := h1 (fun z => c (congrArg some z)); clear h1 h2
    refine lv_iconst (v := 0) C.x C.b dX7_looks_85 (by decide) ?_
    exact h H locs ls hR hS (lv_sub hl [0, 1, 2] rfl)
  · have h := h2 (Option.some.inj c); clear h1 h2
    refine lv_iconst (v := 1) C.x C.b dX7_looks_81 (by decide) ?_
    refine lv_goto (tgt := 86) C.x C.b dX7_looks_82 (by decide) ?_
    exact h H locs ls hR hS (lv_sub hl [0, 1, 2] rfl)
set_option maxHeartbeats 4000000 in
theorem bX7_looks_86 {X : zX} {d : Nat} {E : zM} {K : Option Value → zG → Prop} {KX : String → zG → Prop} (C : zC X (d + 1) E RX7 cX7_looks 9 (some .int) "looks") (hQ : zQ X E K KX) (g : zG) (a0 : Nat) (x1 : Int32) (x4 : Int32) (t0 : Int32) (h : ∃ (k_2 : Nat) (fs_1 : List Value) (a_3 : Nat), zkc k_2 = 7 ∧ zGo g k_2 a0 = some fs_1 ∧ fs_1[0]? = some (.ref a_3) ∧ (a_3 = (zE X 6) → GW X E 9 g 118 [(0, .ref a0), (1, .int x1), (4, .int x4), (5, .int t0)] []) ∧ (¬ a_3 = (zE X 6) → ∃ (k_5 : Nat) (fs_4 : List Value) (a_6 : Nat), zkc k_5 = 7 ∧ zGo g k_5 a0 = some fs_4 ∧ fs_4[0]? = some (.ref a_6) ∧ (a_6 = (zE X 7) → GW X E 9 g 118 [(0, .ref a0), (1, .int x1), (4, .int x4), (5, .int t0)] []) ∧ (¬ a_6 = (zE X 7) → ∃ (k_8 : Nat) (fs_7 : List Value) (a_9 : Nat), zkc k_8 = 7 ∧ zGo g k_8 a0 = some fs_7 ∧ fs_7[0]? = some (.ref a_9) ∧ (¬ a_9 = (zE X 11) → GW X E 9 g 123 [(0, .ref a0), (1, .int x1), (4, .int x4), (5, .int t0)] [.int 0]) ∧ (a_9 = (zE X 11) → GW X E 9 g 118 [(0, .ref a0), (1, .int x1), (4, .int x4), (5, .int t0)] [])))) : GW X E 9 g 86 [(0, .ref a0), (1, .int x1), (4, .int x4)] [.int t0] := by
  intro H locs ls hR hS hl
  refine lv_istore (lv' := [(5, .int t0), (0, .ref a0), (1, .int x1), (4, .int x4)]) C.x C.b dX7_looks_86 hl (by decide) rfl (fun ls hl => ?_)
  refine lv_aload_n C.x C.b dX7_looks_88 rfl (lv_at hl 1 rfl) ?_
  obtain ⟨k_2, fs_1, a_3, q0, q1, q2, h⟩ := h
  refine z_get C hR q1 q0 (ci := 7) rfl in_X7 0 (by decide) q1248 (fun _ h => h) q2 dX7_looks_89 ?_
  refine z_getsE C hS 6 (by decide) q1570 dX7_looks_92 ?_
  obtain ⟨h1, h2⟩ := h
  refine lv_acmp_eq (rx := (some a_3)) (ry := (some (zE X 6))) (tgt := 118) C.x C.b dX7_looks_95 (by decide) (fun c => ?_) (fun c => ?_)
  · have h := h1 (Option.some.inj c); clear h1 h2
    exact h H locs ls hR hS (lv_sub hl [1, 2, 3, 0] rfl)
  · have h := h2 (fun z => c (congrArg some z)); clear h1 h2
    refine lv_aload_n C.x C.b dX7_looks_98 rfl (lv_at hl 1 rfl) ?_
    obtain ⟨k_5, fs_4, a_6, q0, q1, q2, h⟩ := h
    refine z_get C hR q1 q0 (ci := 7) rfl in_X7 0 (by decide) q1248 (fun _ h => h) q2 dX7_looks_99 ?_
    refine z_getsE C hS 7 (by decide) q1571 dX7_looks_102 ?_
    obtain ⟨h1, h2⟩ := h
    refine lv_acmp_eq (rx := (some a_6)) (ry := (some (zE X 7))) (tgt := 118) C.x C.b dX7_looks_105 (by decide) (fun c => ?_) (fun c => ?_)
    · have h := h1 (Option.some.inj c); clear h1 h2
      exact h H locs ls hR hS (lv_sub hl [1, 2, 3, 0] rfl)
    · have h := h2 (fun z => c (congrArg some z)); clear h1 h2
      refine lv_aload_n C.x C.b dX7_looks_108 rfl (lv_at hl 1 rfl) ?_
      obtain ⟨k_8, fs_7, a_9, q0, q1, q2, h⟩ := h
      refine z_get C hR q1 q0 (ci := 7) rfl in_X7 0 (by decide) q1248 (fun _ h => h) q2 dX7_looks_109 ?_
      refine z_getsE C hS 11 (by decide) q1572 dX7_looks_112 ?_
      obtain ⟨h1, h2⟩ := h
      refine lv_acmp_ne (rx := (some a_9)) (ry := (some (zE X 11))) (tgt := 122) C.x C.b dX7_looks_115 (by decide) (fun c => ?_) (fun c => ?_)
      · have h := h1 (fun z => c (congrArg some z)); clear h1 h2
        refine lv_iconst (v := 0) C.x C.b dX7_looks_122 (by decide) ?_
        exact h H locs ls hR hS (lv_sub hl [1, 2, 3, 0] rfl)
      · have h := h2 (Option.some.inj c); clear h1 h2
        exact h H locs ls hR hS (lv_sub hl [1, 2, 3, 0] rfl)
set_option maxHeartbeats 4000000 in
theorem bX7_looks_118 {X : zX} {d : Nat} {E : zM} {K : Option Value → zG → Prop} {KX : String → zG → Prop} (C : zC X (d + 1) E RX7 cX7_looks 9 (some .int) "looks") (hQ : zQ X E K KX) (g : zG) (a0 : Nat) (x1 : Int32) (x4 : Int32) (x5 : Int32) (h : GW X E 9 g 123 [(0, .ref a0), (1, .int x1), (4, .int x4), (5, .int x5)] [.int 1]) : GW X E 9 g 118 [(0, .ref a0), (1, .int x1), (4, .int x4), (5, .int x5)] [] := by
  intro H locs ls hR hS hl
  refine lv_iconst (v := 1) C.x C.b dX7_looks_118 (by decide) ?_
  refine lv_goto (tgt := 123) C.x C.b dX7_looks_119 (by decide) ?_
  exact h H locs ls hR hS (lv_sub hl [0, 1, 2, 3] rfl)
set_option maxHeartbeats 4000000 in
theorem bX7_looks_123 {X : zX} {d : Nat} {E : zM} {K : Option Value → zG → Prop} {KX : String → zG → Prop} (C : zC X (d + 1) E RX7 cX7_looks 9 (some .int) "looks") (hQ : zQ X E K KX) (g : zG) (a0 : Nat) (x1 : Int32) (x4 : Int32) (x5 : Int32) (t0 : Int32) (h : ∃ (k_2 : Nat) (fs_1 : List Value) (a_3 : Nat), zkc k_2 = 7 ∧ zGo g k_2 a0 = some fs_1 ∧ fs_1[0]? = some (.ref a_3) ∧ (a_3 = (zE X 9) → GW X E 9 g 145 [(0, .ref a0), (1, .int x1), (4, .int x4), (5, .int x5), (6, .int t0)] []) ∧ (¬ a_3 = (zE X 9) → ∃ (k_5 : Nat) (fs_4 : List Value) (a_6 : Nat), zkc k_5 = 7 ∧ zGo g k_5 a0 = some fs_4 ∧ fs_4[0]? = some (.ref a_6) ∧ (¬ a_6 = (zE X 10) → GW X E 9 g 150 [(0, .ref a0), (1, .int x1), (4, .int x4), (5, .int x5), (6, .int t0)] [.int 0]) ∧ (a_6 = (zE X 10) → GW X E 9 g 145 [(0, .ref a0), (1, .int x1), (4, .int x4), (5, .int x5), (6, .int t0)] []))) : GW X E 9 g 123 [(0, .ref a0), (1, .int x1), (4, .int x4), (5, .int x5)] [.int t0] := by
  intro H locs ls hR hS hl
  refine lv_istore (lv' := [(6, .int t0), (0, .ref a0), (1, .int x1), (4, .int x4), (5, .int x5)]) C.x C.b dX7_looks_123 hl (by decide) rfl (fun ls hl => ?_)
  refine lv_aload_n C.x C.b dX7_looks_125 rfl (lv_at hl 1 rfl) ?_
  obtain ⟨k_2, fs_1, a_3, q0, q1, q2, h⟩ := h
  refine z_get C hR q1 q0 (ci := 7) rfl in_X7 0 (by decide) q1248 (fun _ h => h) q2 dX7_looks_126 ?_
  refine z_getsE C hS 9 (by decide) q1573 dX7_looks_129 ?_
  obtain ⟨h1, h2⟩ := h
  refine lv_acmp_eq (rx := (some a_3)) (ry := (some (zE X 9))) (tgt := 145) C.x C.b dX7_looks_132 (by decide) (fun c => ?_) (fun c => ?_)
  · have h := h1 (Option.some.inj c); clear h1 h2
    exact h H locs ls hR hS (lv_sub hl [1, 2, 3, 4, 0] rfl)
  · have h := h2 (fun z => c (congrArg some z)); clear h1 h2
    refine lv_aload_n C.x C.b dX7_looks_135 rfl (lv_at hl 1 rfl) ?_
    obtain ⟨k_5, fs_4, a_6, q0, q1, q2, h⟩ := h
    refine z_get C hR q1 q0 (ci := 7) rfl in_X7 0 (by decide) q1248 (fun _ h => h) q2 dX7_looks_136 ?_
    refine z_getsE C hS 10 (by decide) q1574 dX7_looks_139 ?_
    obtain ⟨h1, h2⟩ := h
    refine lv_acmp_ne (rx := (some a_6)) (ry := (some (zE X 10))) (tgt := 149) C.x C.b dX7_looks_142 (by decide) (fun c => ?_) (fun c => ?_)
    · have h := h1 (fun z => c (congrArg some z)); clear h1 h2
      refine lv_iconst (v := 0) C.x C.b dX7_looks_149 (by decide) ?_
      exact h H locs ls hR hS (lv_sub hl [1, 2, 3, 4, 0] rfl)
    · have h := h2 (Option.some.inj c); clear h1 h2
      exact h H locs ls hR hS (lv_sub hl [1, 2, 3, 4, 0] rfl)
set_option maxHeartbeats 4000000 in
theorem bX7_looks_145 {X : zX} {d : Nat} {E : zM} {K : Option Value → zG → Prop} {KX : String → zG → Prop} (C : zC X (d + 1) E RX7 cX7_looks 9 (some .int) "looks") (hQ : zQ X E K KX) (g : zG) (a0 : Nat) (x1 : Int32) (x4 : Int32) (x5 : Int32) (x6 : Int32) (h : GW X E 9 g 150 [(0, .ref a0), (1, .int x1), (4, .int x4), (5, .int x5), (6, .int x6)] [.int 1]) : GW X E 9 g 145 [(0, .ref a0), (1, .int x1), (4, .int x4), (5, .int x5), (6, .int x6)] [] := by
  intro H locs ls hR hS hl
  refine lv_iconst (v := 1) C.x C.b dX7_looks_145 (by decide) ?_
  refine lv_goto (tgt := 150) C.x C.b dX7_looks_146 (by decide) ?_
  exact h H locs ls hR hS (lv_sub hl [0, 1, 2, 3, 4] rfl)
set_option maxHeartbeats 4000000 in
theorem bX7_looks_150 {X : zX} {d : Nat} {E : zM} {K : Option Value → zG → Prop} {KX : String → zG → Prop} (C : zC X (d + 1) E RX7 cX7_looks 9 (some .int) "looks") (hQ : zQ X E K KX) (g : zG) (a0 : Nat) (x1 : Int32) (x4 : Int32) (x5 : Int32) (x6 : Int32) (t0 : Int32) (h : (x1 = 0 → GW X E 9 g 163 [(0, .ref a0), (4, .int x4), (5, .int x5)] [.int x6]) ∧ (¬ x1 = 0 → GW X E 9 g 163 [(0, .ref a0), (4, .int x4), (5, .int x5)] [.int t0])) : GW X E 9 g 150 [(0, .ref a0), (1, .int x1), (4, .int x4), (5, .int x5), (6, .int x6)] [.int t0] := by
  intro H locs ls hR hS hl
  refine lv_istore (lv' := [(7, .int t0), (0, .ref a0), (1, .int x1), (4, .int x4), (5, .int x5), (6, .int x6)]) C.x C.b dX7_looks_150 hl (by decide) rfl (fun ls hl => ?_)
  refine lv_iload_n C.x C.b dX7_looks_152 rfl (lv_at hl 2 rfl) ?_
  obtain ⟨h1, h2⟩ := h
  refine lv_if_eq (tgt := 161) C.x C.b dX7_looks_153 (by decide) (fun c => ?_) (fun c => ?_)
  · have h := h1 c; clear h1 h2
    refine lv_iload C.x C.b dX7_looks_161 (lv_at hl 5 rfl) ?_
    exact h H locs ls hR hS (lv_sub hl [1, 3, 4] rfl)
  · have h := h2 c; clear h1 h2
    refine lv_iload C.x C.b dX7_looks_156 (lv_at hl 0 rfl) ?_
    refine lv_goto (tgt := 163) C.x C.b dX7_looks_158 (by decide) ?_
    exact h H locs ls hR hS (lv_sub hl [1, 3, 4] rfl)
set_option maxHeartbeats 4000000 in
theorem bX7_looks_163 {X : zX} {d : Nat} {E : zM} {K : Option Value → zG → Prop} {KX : String → zG → Prop} (C : zC X (d + 1) E RX7 cX7_looks 9 (some .int) "looks") (hQ : zQ X E K KX) (g : zG) (a0 : Nat) (x4 : Int32) (x5 : Int32) (t0 : Int32) (h : (¬ x5 = 0 → K (some (.int (-1))) g) ∧ (x5 = 0 → (x4 = (-1) → K (some (.int (-1))) g) ∧ (¬ x4 = (-1) → (t0 = 0 → (t0 = 0 → K (some (.int (x4 + 0))) g) ∧ (¬ t0 = 0 → ∃ (k_2 : Nat) (fs_1 : List Value) (v_3 : Int32), zkc k_2 = 7 ∧ zGo g k_2 a0 = some fs_1 ∧ fs_1[2]? = some (.int v_3) ∧ K (some (.int (x4 + v_3))) g)) ∧ (¬ t0 = 0 → ∃ (k_5 : Nat) (fs_4 : List Value) (v_6 : Int32), zkc k_5 = 7 ∧ zGo g k_5 a0 = some fs_4 ∧ fs_4[2]? = some (.int v_6) ∧ (¬ v_6 = (-1) → (t0 = 0 → K (some (.int (x4 + 0))) g) ∧ (¬ t0 = 0 → ∃ (k_8 : Nat) (fs_7 : List Value) (v_9 : Int32), zkc k_8 = 7 ∧ zGo g k_8 a0 = some fs_7 ∧ fs_7[2]? = some (.int v_9) ∧ K (some (.int (x4 + v_9))) g)) ∧ (v_6 = (-1) → K (some (.int (-1))) g))))) : GW X E 9 g 163 [(0, .ref a0), (4, .int x4), (5, .int x5)] [.int t0] := by
  intro H locs ls hR hS hl
  refine lv_istore (lv' := [(8, .int t0), (0, .ref a0), (4, .int x4), (5, .int x5)]) C.x C.b dX7_looks_163 hl (by decide) rfl (fun ls hl => ?_)
  refine lv_iload C.x C.b dX7_looks_165 (lv_at hl 3 rfl) ?_
  obtain ⟨h1, h2⟩ := h
  refine lv_if_ne (tgt := 189) C.x C.b dX7_looks_167 (by decide) (fun c => ?_) (fun c => ?_)
  · have h := h1 c; clear h1 h2
    refine lv_iconst (v := (-1)) C.x C.b dX7_looks_189 (by decide) ?_
    refine lv_goto (tgt := 209) C.x C.b dX7_looks_190 (by decide) ?_
    exact z_iret C hQ dX7_looks_209 h H locs ls hR hS hl
  · have h := h2 c; clear h1 h2
    refine lv_iload C.x C.b dX7_looks_170 (lv_at hl 2 rfl) ?_
    refine lv_iconst (v := (-1)) C.x C.b dX7_looks_172 (by decide) ?_
    obtain ⟨h1, h2⟩ := h
    refine lv_icmp_eq (tgt := 189) C.x C.b dX7_looks_173 (by decide) (fun c => ?_) (fun c => ?_)
    · have h := h1 c; clear h1 h2
      refine lv_iconst (v := (-1)) C.x C.b dX7_looks_189 (by decide) ?_
      refine lv_goto (tgt := 209) C.x C.b dX7_looks_190 (by decide) ?_
      exact z_iret C hQ dX7_looks_209 h H locs ls hR hS hl
    · have h := h2 c; clear h1 h2
      refine lv_iload C.x C.b dX7_looks_176 (lv_at hl 0 rfl) ?_
      obtain ⟨h1, h2⟩ := h
      refine lv_if_eq (tgt := 193) C.x C.b dX7_looks_178 (by decide) (fun c => ?_) (fun c => ?_)
      · have h := h1 c; clear h1 h2
        refine lv_iload C.x C.b dX7_looks_193 (lv_at hl 2 rfl) ?_
        refine lv_iload C.x C.b dX7_looks_195 (lv_at hl 0 rfl) ?_
        obtain ⟨h1, h2⟩ := h
        refine lv_if_eq (tgt := 207) C.x C.b dX7_looks_197 (by decide) (fun c => ?_) (fun c => ?_)
        · have h := h1 c; clear h1 h2
          refine lv_iconst (v := 0) C.x C.b dX7_looks_207 (by decide) ?_
          refine lv_iadd C.x C.b dX7_looks_208 ?_
          exact z_iret C hQ dX7_looks_209 h H locs ls hR hS hl
        · have h := h2 c; clear h1 h2
          refine lv_aload_n C.x C.b dX7_looks_200 rfl (lv_at hl 1 rfl) ?_
          obtain ⟨k_2, fs_1, v_3, q0, q1, q2, h⟩ := h
          refine z_get C hR q1 q0 (ci := 7) rfl in_X7 2 (by decide) q1252 (fun _ h => h) q2 dX7_looks_201 ?_
          refine lv_goto (tgt := 208) C.x C.b dX7_looks_204 (by decide) ?_
          refine lv_iadd C.x C.b dX7_looks_208 ?_
          exact z_iret C hQ dX7_looks_209 h H locs ls hR hS hl
      · have h := h2 c; clear h1 h2
        refine lv_aload_n C.x C.b dX7_looks_181 rfl (lv_at hl 1 rfl) ?_
        obtain ⟨k_5, fs_4, v_6, q0, q1, q2, h⟩ := h
        refine z_get C hR q1 q0 (ci := 7) rfl in_X7 2 (by decide) q1252 (fun _ h => h) q2 dX7_looks_182 ?_
        refine lv_iconst (v := (-1)) C.x C.b dX7_looks_185 (by decide) ?_
        obtain ⟨h1, h2⟩ := h
        refine lv_icmp_ne (tgt := 193) C.x C.b dX7_looks_186 (by decide) (fun c => ?_) (fun c => ?_)
        · have h := h1 c; clear h1 h2
          refine lv_iload C.x C.b dX7_looks_193 (lv_at hl 2 rfl) ?_
          refine lv_iload C.x C.b dX7_looks_195 (lv_at hl 0 rfl) ?_
          obtain ⟨h1, h2⟩ := h
          refine lv_if_eq (tgt := 207) C.x C.b dX7_looks_197 (by decide) (fun c => ?_) (fun c => ?_)
          · have h := h1 c; clear h1 h2
            refine lv_iconst (v := 0) C.x C.b dX7_looks_207 (by decide) ?_
            refine lv_iadd C.x C.b dX7_looks_208 ?_
            exact z_iret C hQ dX7_looks_209 h H locs ls hR hS hl
          · have h := h2 c; clear h1 h2
            refine lv_aload_n C.x C.b dX7_looks_200 rfl (lv_at hl 1 rfl) ?_
            obtain ⟨k_8, fs_7, v_9, q0, q1, q2, h⟩ := h
            refine z_get C hR q1 q0 (ci := 7) rfl in_X7 2 (by decide) q1252 (fun _ h => h) q2 dX7_looks_201 ?_
            refine lv_goto (tgt := 208) C.x C.b dX7_looks_204 (by decide) ?_
            refine lv_iadd C.x C.b dX7_looks_208 ?_
            exact z_iret C hQ dX7_looks_209 h H locs ls hR hS hl
        · have h := h2 c; clear h1 h2
          refine lv_iconst (v := (-1)) C.x C.b dX7_looks_189 (by decide) ?_
          refine lv_goto (tgt := 209) C.x C.b dX7_looks_190 (by decide) ?_
          exact z_iret C hQ dX7_looks_209 h H locs ls hR hS hl
set_option maxHeartbeats 4000000 in
theorem mX7_looks {X : zX} {d : Nat} {g : zG} {K : Option Value → zG → Prop} {KX : String → zG → Prop} (hok : zOk X) (a0 : Nat) (x1 : Int32) (h : ∀ E : zM, zC X (d + 1) E RX7 cX7_looks 9 (some .int) "looks" → zQ X E K KX → ∃ (k_2 : Nat) (fs_1 : List Value) (r_3 : Option Nat), zkc k_2 = 7 ∧ zGo g k_2 a0 = some fs_1 ∧ fs_1[3]? = some (va_rf r_3) ∧ (r_3 = none → GW X E 9 g 19 [(0, .ref a0), (1, .int x1)] [.int 0]) ∧ (∀ a_4 : Nat, r_3 = some a_4 → ∃ (k_6 : Nat) (fs_5 : List Value) (r_7 : Option Nat), zkc k_6 = 7 ∧ zGo g k_6 a0 = some fs_5 ∧ fs_5[3]? = some (va_rf r_7) ∧ ∃ a_8 : Nat, r_7 = some a_8 ∧ zIs g 7 a_8 ∧ zCal X d yX7_looks wX7_looks [.ref a_8, .int x1] g (fun r g_9 => ∃ v_10 : Int32, r = some (.int v_10) ∧ GW X E 9 g_9 19 [(0, .ref a0), (1, .int x1)] [.int v_10]) KX)) : zCal X (d + 1) yX7_looks wX7_looks [.ref a0, .int x1] g K KX := by
  refine z_enter hok pn_X7 (Nat.le_of_ble_eq_true rfl) (fun E C hQ => ?_)
  have C : zC X (d + 1) E RX7 cX7_looks 9 (some .int) "looks" := C
  have h := h E C hQ
  show GW X E 9 g 0 [(0, .ref a0), (1, .int x1)] []
  intro H locs ls hR hS hl
  refine lv_aload_n C.x C.b dX7_looks_0 rfl (lv_at hl 0 rfl) ?_
  obtain ⟨k_2, fs_1, r_3, q0, q1, q2, h⟩ := h
  refine z_get C hR q1 q0 (ci := 7) rfl in_X7 3 (by decide) q1254 (fun _ h => h) q2 dX7_looks_1 ?_
  obtain ⟨h1, h2⟩ := h
  cases r_3 with
  | none =>
    have h := h1 rfl; clear h1 h2
    have hl : lv_has ls 9 [(0, .ref a0), (1, .int x1)] := by assumption
    refine lv_ifnonnullN C.x C.b dX7_looks_4 ?_
    refine lv_iconst (v := 0) C.x C.b dX7_looks_7 (by decide) ?_
    refine lv_goto (tgt := 19) C.x C.b dX7_looks_8 (by decide) ?_
    exact h H locs ls hR hS (lv_sub hl [0, 1] rfl)
  | some a_4 =>
    have h := h2 _ rfl; clear h1 h2
    have hl : lv_has ls 9 [(0, .ref a0), (1, .int x1)] := by assumption
    refine lv_ifnonnull (tgt := 11) C.x C.b dX7_looks_4 (by decide) ?_
    refine lv_aload_n C.x C.b dX7_looks_11 rfl (lv_at hl 0 rfl) ?_
    obtain ⟨k_6, fs_5, r_7, q0, q1, q2, h⟩ := h
    refine z_get C hR q1 q0 (ci := 7) rfl in_X7 3 (by decide) q1254 (fun _ h => h) q2 dX7_looks_12 ?_
    refine lv_iload_n C.x C.b dX7_looks_15 rfl (lv_at hl 1 rfl) ?_
    obtain ⟨a_8, e_, h⟩ := h; subst e_
    have hl : lv_has ls 9 [(0, .ref a0), (1, .int x1)] := by assumption
    show zV X E H locs (F0 (zm E) 16 ls [.int x1, .ref a_8])
    refine z_callV C hR hS hl (n := 1) (C1 := RX7) (T := TX7) (N := 7) (ci := 7) (y := yX7_looks) (bytes := cX7_looks) (maxL := 9) (rt := (some .int)) (As := [.int x1]) (rest := []) h.1 rfl (lw_V q1566 q1563 q1564 q106 q1565) hdV_X7_looks (by decide) rfl rfl (Nat.le_of_ble_eq_true rfl) dX7_looks_16 h.2 (fun r g_9 hk_ => ?_) (fun x g1 h => z_out C hQ h)
    clear h; obtain ⟨v_10, rfl, h⟩ := hk_
    show GW X E 9 g_9 19 [(0, .ref a0), (1, .int x1)] [.int v_10]
    intro H locs ls hR hS hl
    exact h H locs ls hR hS (lv_sub hl [0, 1] rfl)
theorem hdF_J2_clear : (yJ2_clear.name = (⟨"java/util/List", "clear", "()V"⟩ : MethodName).name ∧ yJ2_clear.desc = (⟨"java/util/List", "clear", "()V"⟩ : MethodName).desc) ∧ (⟨"java/util/List", "clear", "()V"⟩ : MethodName).cls ≠ "java/lang/invoke/MethodHandle" ∧ (⟨"java/util/List", "clear", "()V"⟩ : MethodName).cls ≠ "java/lang/invoke/VarHandle" ∧ (parseMethodDescriptor (⟨"java/util/List", "clear", "()V"⟩ : MethodName).desc).map (fun d => d.parameters.length) = some 0 := by decide +kernel
theorem hdF_J2_get : (yJ2_get.name = (⟨"java/util/List", "get", "(I)Ljava/lang/Object;"⟩ : MethodName).name ∧ yJ2_get.desc = (⟨"java/util/List", "get", "(I)Ljava/lang/Object;"⟩ : MethodName).desc) ∧ (⟨"java/util/List", "get", "(I)Ljava/lang/Object;"⟩ : MethodName).cls ≠ "java/lang/invoke/MethodHandle" ∧ (⟨"java/util/List", "get", "(I)Ljava/lang/Object;"⟩ : MethodName).cls ≠ "java/lang/invoke/VarHandle" ∧ (parseMethodDescriptor (⟨"java/util/List", "get", "(I)Ljava/lang/Object;"⟩ : MethodName).desc).map (fun d => d.parameters.length) = some 1 := by decide +kernel
set_option maxHeartbeats 4000000 in
theorem bX9_lay_11 {X : zX} {d : Nat} {E : zM} {K : Option Value → zG → Prop} {KX : String → zG → Prop} (C : zC X (d + 1) E RX9 cX9_lay 5 none "lay") (hQ : zQ X E K KX) (g : zG) (a0 : Nat) (a1 : Nat) (x2 : Int32) (x3 : Int32) (h : zIs g 0 a1 ∧ zCal X d yJ2_size wJ2_size [.ref a1] g (fun r g_1 => ∃ v_2 : Int32, r = some (.int v_2) ∧ (v_2 ≤ x3 → GW X E 5 g_1 88 [(0, .ref a0), (3, .int 0)] []) ∧ (¬ v_2 ≤ x3 → (x2 = (-1) → ∃ (fs_3 : List Value) (a_4 : Nat), zGo g_1 9 a0 = some fs_3 ∧ fs_3[0]? = some (.ref a_4) ∧ zIs g_1 0 a1 ∧ zCal X d yJ2_get wJ2_get [.ref a1, .int x3] g_1 (fun r g_5 => ∃ r_6 : Option Nat, r = some (va_rf r_6) ∧ ∃ a_7 : Nat, r_6 = some a_7 ∧ zIs g_5 4 a_7 ∧ zIs g_5 0 a_4 ∧ zCal X d yJ2_add wJ2_add [.ref a_4, .ref a_7] g_5 (fun r g_8 => ∃ v_9 : Int32, r = some (.int v_9) ∧ zbo v_9 ∧ GW X E 5 g_8 11 [(0, .ref a0), (1, .ref a1), (2, .int x2), (3, .int (x3 + 1))] []) KX) KX) ∧ (¬ x2 = (-1) → zIs g_1 0 a1 ∧ zCal X d yJ2_get wJ2_get [.ref a1, .int x3] g_1 (fun r g_10 => ∃ r_11 : Option Nat, r = some (va_rf r_11) ∧ ∃ a_12 : Nat, r_11 = some a_12 ∧ zIs g_10 4 a_12 ∧ ∃ (fs_13 : List Value) (v_14 : Int32), zGo g_10 4 a_12 = some fs_13 ∧ fs_13[4]? = some (.int v_14) ∧ (v_14 = x2 → ∃ (fs_15 : List Value) (a_16 : Nat), zGo g_10 9 a0 = some fs_15 ∧ fs_15[0]? = some (.ref a_16) ∧ zIs g_10 0 a1 ∧ zCal X d yJ2_get wJ2_get [.ref a1, .int x3] g_10 (fun r g_17 => ∃ r_18 : Option Nat, r = some (va_rf r_18) ∧ ∃ a_19 : Nat, r_18 = some a_19 ∧ zIs g_17 4 a_19 ∧ zIs g_17 0 a_16 ∧ zCal X d yJ2_add wJ2_add [.ref a_16, .ref a_19] g_17 (fun r g_20 => ∃ v_21 : Int32, r = some (.int v_21) ∧ zbo v_21 ∧ GW X E 5 g_20 11 [(0, .ref a0), (1, .ref a1), (2, .int x2), (3, .int (x3 + 1))] []) KX) KX) ∧ (¬ v_14 = x2 → zIs g_10 0 a1 ∧ zCal X d yJ2_get wJ2_get [.ref a1, .int x3] g_10 (fun r g_22 => ∃ r_23 : Option Nat, r = some (va_rf r_23) ∧ ∃ a_24 : Nat, r_23 = some a_24 ∧ zIs g_22 4 a_24 ∧ ∃ (fs_25 : List Value) (v_26 : Int32), zGo g_22 4 a_24 = some fs_25 ∧ fs_25[4]? = some (.int v_26) ∧ (¬ v_26 = (-1) → GW X E 5 g_22 11 [(0, .ref a0), (1, .ref a1), (2, .int x2), (3, .int (x3 + 1))] []) ∧ (v_26 = (-1) → ∃ (fs_27 : List Value) (a_28 : Nat), zGo g_22 9 a0 = some fs_27 ∧ fs_27[0]? = some (.ref a_28) ∧ zIs g_22 0 a1 ∧ zCal X d yJ2_get wJ2_get [.ref a1, .int x3] g_22 (fun r g_29 => ∃ r_30 : Option Nat, r = some (va_rf r_30) ∧ ∃ a_31 : Nat, r_30 = some a_31 ∧ zIs g_29 4 a_31 ∧ zIs g_29 0 a_28 ∧ zCal X d yJ2_add wJ2_add [.ref a_28, .ref a_31] g_29 (fun r g_32 => ∃ v_33 : Int32, r = some (.int v_33) ∧ zbo v_33 ∧ GW X E 5 g_32 11 [(0, .ref a0), (1, .ref a1), (2, .int x2), (3, .int (x3 + 1))] []) KX) KX)) KX)) KX))) KX) : GW X E 5 g 11 [(0, .ref a0), (1, .ref a1), (2, .int x2), (3, .int x3)] [] := by
  intro H locs ls hR hS hl
  refine lv_iload_n C.x C.b dX9_lay_11 rfl (lv_at hl 3 rfl) ?_
  refine lv_aload_n C.x C.b dX9_lay_12 rfl (lv_at hl 1 rfl) ?_
  refine z_callF C hR hS hl (n := 0) (C1 := RJ2) (T := TJ2) (N := 3) (ci := 0) (y := yJ2_size) (bytes := cJ2_size) (maxL := 1) (rt := (some .int)) (As := []) (rest := [.int x3]) (x := ⟨"java/util/List", "size", "()I"⟩) h.1 rfl (lw_F q463 q294 q296 q76 q298) ⟨C.ok.2.1 _ q293, C.ok.2.1 _ q292, C.ok.2.1 _ q297, C.ok.2.1 _ q295, C.ok.2.1 _ q174⟩ hdF_J2_size (by decide) rfl rfl (Nat.le_of_ble_eq_true rfl) dX9_lay_13 h.2 (fun r g_1 hk_ => ?_) (fun x g1 h => z_out C hQ h)
  clear h; obtain ⟨v_2, rfl, h⟩ := hk_
  show GW X E 5 g_1 18 [(0, .ref a0), (1, .ref a1), (2, .int x2), (3, .int x3)] [.int v_2, .int x3]
  intro H locs ls hR hS hl
  obtain ⟨h1, h2⟩ := h
  refine lv_icmp_ge (tgt := 86) C.x C.b dX9_lay_18 (by decide) (fun c => ?_) (fun c => ?_)
  · have h := h1 c; clear h1 h2
    refine lv_iconst (v := 0) C.x C.b dX9_lay_86 (by decide) ?_
    refine lv_istore_n (lv' := [(3, .int 0), (0, .ref a0), (1, .ref a1), (2, .int x2)]) C.x C.b dX9_lay_87 rfl hl (by decide) rfl (fun ls hl => ?_)
    exact h H locs ls hR hS (lv_sub hl [1, 0] rfl)
  · have h := h2 c; clear h1 h2
    refine lv_iload_n C.x C.b dX9_lay_21 rfl (lv_at hl 2 rfl) ?_
    refine lv_iconst (v := (-1)) C.x C.b dX9_lay_22 (by decide) ?_
    obtain ⟨h1, h2⟩ := h
    refine lv_icmp_eq (tgt := 60) C.x C.b dX9_lay_23 (by decide) (fun c => ?_) (fun c => ?_)
    · have h := h1 c; clear h1 h2
      refine lv_aload_n C.x C.b dX9_lay_60 rfl (lv_at hl 0 rfl) ?_
      obtain ⟨fs_3, a_4, q1, q2, h⟩ := h
      refine z_get C hR q1 rfl (ci := 9) rfl in_X9 0 (by decide) q1419 (fun _ h => h) q2 dX9_lay_61 ?_
      refine lv_aload_n C.x C.b dX9_lay_64 rfl (lv_at hl 1 rfl) ?_
      refine lv_iload_n C.x C.b dX9_lay_65 rfl (lv_at hl 3 rfl) ?_
      refine z_callF C hR hS hl (n := 1) (C1 := RJ2) (T := TJ2) (N := 3) (ci := 0) (y := yJ2_get) (bytes := cJ2_get) (maxL := 2) (rt := (some (.object "java/lang/Object"))) (As := [.int x3]) (rest := [.ref a_4]) (x := ⟨"java/util/List", "get", "(I)Ljava/lang/Object;"⟩) h.1 rfl (lw_F q465 q381 q383 q76 q385) ⟨C.ok.2.1 _ q380, C.ok.2.1 _ q379, C.ok.2.1 _ q384, C.ok.2.1 _ q382, C.ok.2.1 _ q174⟩ hdF_J2_get (by decide) rfl rfl (Nat.le_of_ble_eq_true rfl) dX9_lay_66 h.2 (fun r g_5 hk_ => ?_) (fun x g1 h => z_out C hQ h)
      clear h; obtain ⟨r_6, rfl, h⟩ := hk_
      show GW X E 5 g_5 71 [(0, .ref a0), (1, .ref a1), (2, .int x2), (3, .int x3)] [va_rf r_6, .ref a_4]
      intro H locs ls hR hS hl
      obtain ⟨a_7, e_, h⟩ := h; subst e_
      have hl : lv_has ls 5 [(0, .ref a0), (1, .ref a1), (2, .int x2), (3, .int x3)] := by assumption
      show zV X E H locs (F0 (zm E) 71 ls [.ref a_7, .ref a_4])
      refine z_castS C hR (ci := 4) (C1 := RX4) (T := TX4) (N := 7) h.1 rfl q466 dX9_lay_71 ?_
      have h := h.2
      refine z_callF C hR hS hl (n := 1) (C1 := RJ2) (T := TJ2) (N := 3) (ci := 0) (y := yJ2_add) (bytes := cJ2_add) (maxL := 2) (rt := (some .boolean)) (As := [.ref a_7]) (rest := []) (x := ⟨"java/util/List", "add", "(Ljava/lang/Object;)Z"⟩) h.1 rfl (lw_F q468 q175 q177 q76 q179) ⟨C.ok.2.1 _ q173, C.ok.2.1 _ q172, C.ok.2.1 _ q178, C.ok.2.1 _ q176, C.ok.2.1 _ q174⟩ hdF_J2_add (by decide) rfl rfl (Nat.le_of_ble_eq_true rfl) dX9_lay_74 h.2 (fun r g_8 hk_ => ?_) (fun x g1 h => z_out C hQ h)
      clear h; obtain ⟨v_9, rfl, zb_, h⟩ := hk_
      show GW X E 5 g_8 79 [(0, .ref a0), (1, .ref a1), (2, .int x2), (3, .int x3)] [.int v_9]
      intro H locs ls hR hS hl
      refine lv_pop C.x C.b dX9_lay_79 rfl ?_
      refine lv_iinc (v := x3 + 1) (lv' := [(3, .int (x3 + 1)), (0, .ref a0), (1, .ref a1), (2, .int x2)]) C.x C.b dX9_lay_80 hl (k := 3) rfl rfl (by decide) rfl (fun ls hl => ?_)
      refine lv_goto (tgt := 11) C.x C.b dX9_lay_83 (by decide) ?_
      exact h H locs ls hR hS (lv_sub hl [1, 2, 3, 0] rfl)
    · have h := h2 c; clear h1 h2
      refine lv_aload_n C.x C.b dX9_lay_26 rfl (lv_at hl 1 rfl) ?_
      refine lv_iload_n C.x C.b dX9_lay_27 rfl (lv_at hl 3 rfl) ?_
      refine z_callF C hR hS hl (n := 1) (C1 := RJ2) (T := TJ2) (N := 3) (ci := 0) (y := yJ2_get) (bytes := cJ2_get) (maxL := 2) (rt := (some (.object "java/lang/Object"))) (As := [.int x3]) (rest := []) (x := ⟨"java/util/List", "get", "(I)Ljava/lang/Object;"⟩) h.1 rfl (lw_F q465 q381 q383 q76 q385) ⟨C.ok.2.1 _ q380, C.ok.2.1 _ q379, C.ok.2.1 _ q384, C.ok.2.1 _ q382, C.ok.2.1 _ q174⟩ hdF_J2_get (by decide) rfl rfl (Nat.le_of_ble_eq_true rfl) dX9_lay_28 h.2 (fun r g_10 hk_ => ?_) (fun x g1 h => z_out C hQ h)
      clear h; obtain ⟨r_11, rfl, h⟩ := hk_
      show GW X E 5 g_10 33 [(0, .ref a0), (1, .ref a1), (2, .int x2), (3, .int x3)] [va_rf r_11]
      intro H locs ls hR hS hl
      obtain ⟨a_12, e_, h⟩ := h; subst e_
      have hl : lv_has ls 5 [(0, .ref a0), (1, .ref a1), (2, .int x2), (3, .int x3)] := by assumption
      show zV X E H locs (F0 (zm E) 33 ls [.ref a_12])
      refine z_castS C hR (ci := 4) (C1 := RX4) (T := TX4) (N := 7) h.1 rfl q466 dX9_lay_33 ?_
      have h := h.2
      obtain ⟨fs_13, v_14, q1, q2, h⟩ := h
      refine z_getN C hR q1 rfl (ci := 4) rfl in_X4 4 (by decide) q795 (fun _ h => h) q2 dX9_lay_36 ?_
      refine lv_iload_n C.x C.b dX9_lay_39 rfl (lv_at hl 2 rfl) ?_
      obtain ⟨h1, h2⟩ := h
      refine lv_icmp_eq (tgt := 60) C.x C.b dX9_lay_40 (by decide) (fun c => ?_) (fun c => ?_)
      · have h := h1 c; clear h1 h2
        refine lv_aload_n C.x C.b dX9_lay_60 rfl (lv_at hl 0 rfl) ?_
        obtain ⟨fs_15, a_16, q1, q2, h⟩ := h
        refine z_get C hR q1 rfl (ci := 9) rfl in_X9 0 (by decide) q1419 (fun _ h => h) q2 dX9_lay_61 ?_
        refine lv_aload_n C.x C.b dX9_lay_64 rfl (lv_at hl 1 rfl) ?_
        refine lv_iload_n C.x C.b dX9_lay_65 rfl (lv_at hl 3 rfl) ?_
        refine z_callF C hR hS hl (n := 1) (C1 := RJ2) (T := TJ2) (N := 3) (ci := 0) (y := yJ2_get) (bytes := cJ2_get) (maxL := 2) (rt := (some (.object "java/lang/Object"))) (As := [.int x3]) (rest := [.ref a_16]) (x := ⟨"java/util/List", "get", "(I)Ljava/lang/Object;"⟩) h.1 rfl (lw_F q465 q381 q383 q76 q385) ⟨C.ok.2.1 _ q380, C.ok.2.1 _ q379, C.ok.2.1 _ q384, C.ok.2.1 _ q382, C.ok.2.1 _ q174⟩ hdF_J2_get (by decide) rfl rfl (Nat.le_of_ble_eq_true rfl) dX9_lay_66 h.2 (fun r g_17 hk_ => ?_) (fun x g1 h => z_out C hQ h)
        clear h; obtain ⟨r_18, rfl, h⟩ := hk_
        show GW X E 5 g_17 71 [(0, .ref a0), (1, .ref a1), (2, .int x2), (3, .int x3)] [va_rf r_18, .ref a_16]
        intro H locs ls hR hS hl
        obtain ⟨a_19, e_, h⟩ := h; subst e_
        have hl : lv_has ls 5 [(0, .ref a0), (1, .ref a1), (2, .int x2), (3, .int x3)] := by assumption
        show zV X E H locs (F0 (zm E) 71 ls [.ref a_19, .ref a_16])
        refine z_castS C hR (ci := 4) (C1 := RX4) (T := TX4) (N := 7) h.1 rfl q466 dX9_lay_71 ?_
        have h := h.2
        refine z_callF C hR hS hl (n := 1) (C1 := RJ2) (T := TJ2) (N := 3) (ci := 0) (y := yJ2_add) (bytes := cJ2_add) (maxL := 2) (rt := (some .boolean)) (As := [.ref a_19]) (rest := []) (x := ⟨"java/util/List", "add", "(Ljava/lang/Object;)Z"⟩) h.1 rfl (lw_F q468 q175 q177 q76 q179) ⟨C.ok.2.1 _ q173, C.ok.2.1 _ q172, C.ok.2.1 _ q178, C.ok.2.1 _ q176, C.ok.2.1 _ q174⟩ hdF_J2_add (by decide) rfl rfl (Nat.le_of_ble_eq_true rfl) dX9_lay_74 h.2 (fun r g_20 hk_ => ?_) (fun x g1 h => z_out C hQ h)
        clear h; obtain ⟨v_21, rfl, zb_, h⟩ := hk_
        show GW X E 5 g_20 79 [(0, .ref a0), (1, .ref a1), (2, .int x2), (3, .int x3)] [.int v_21]
        intro H locs ls hR hS hl
        refine lv_pop C.x C.b dX9_lay_79 rfl ?_
        refine lv_iinc (v := x3 + 1) (lv' := [(3, .int (x3 + 1)), (0, .ref a0), (1, .ref a1), (2, .int x2)]) C.x C.b dX9_lay_80 hl (k := 3) rfl rfl (by decide) rfl (fun ls hl => ?_)
        refine lv_goto (tgt := 11) C.x C.b dX9_lay_83 (by decide) ?_
        exact h H locs ls hR hS (lv_sub hl [1, 2, 3, 0] rfl)
      · have h := h2 c; clear h1 h2
        refine lv_aload_n C.x C.b dX9_lay_43 rfl (lv_at hl 1 rfl) ?_
        refine lv_iload_n C.x C.b dX9_lay_44 rfl (lv_at hl 3 rfl) ?_
        refine z_callF C hR hS hl (n := 1) (C1 := RJ2) (T := TJ2) (N := 3) (ci := 0) (y := yJ2_get) (bytes := cJ2_get) (maxL := 2) (rt := (some (.object "java/lang/Object"))) (As := [.int x3]) (rest := []) (x := ⟨"java/util/List", "get", "(I)Ljava/lang/Object;"⟩) h.1 rfl (lw_F q465 q381 q383 q76 q385) ⟨C.ok.2.1 _ q380, C.ok.2.1 _ q379, C.ok.2.1 _ q384, C.ok.2.1 _ q382, C.ok.2.1 _ q174⟩ hdF_J2_get (by decide) rfl rfl (Nat.le_of_ble_eq_true rfl) dX9_lay_45 h.2 (fun r g_22 hk_ => ?_) (fun x g1 h => z_out C hQ h)
        clear h; obtain ⟨r_23, rfl, h⟩ := hk_
        show GW X E 5 g_22 50 [(0, .ref a0), (1, .ref a1), (2, .int x2), (3, .int x3)] [va_rf r_23]
        intro H locs ls hR hS hl
        obtain ⟨a_24, e_, h⟩ := h; subst e_
        have hl : lv_has ls 5 [(0, .ref a0), (1, .ref a1), (2, .int x2), (3, .int x3)] := by assumption
        show zV X E H locs (F0 (zm E) 50 ls [.ref a_24])
        refine z_castS C hR (ci := 4) (C1 := RX4) (T := TX4) (N := 7) h.1 rfl q466 dX9_lay_50 ?_
        have h := h.2
        obtain ⟨fs_25, v_26, q1, q2, h⟩ := h
        refine z_getN C hR q1 rfl (ci := 4) rfl in_X4 4 (by decide) q795 (fun _ h => h) q2 dX9_lay_53 ?_
        refine lv_iconst (v := (-1)) C.x C.b dX9_lay_56 (by decide) ?_
        obtain ⟨h1, h2⟩ := h
        refine lv_icmp_ne (tgt := 80) C.x C.b dX9_lay_57 (by decide) (fun c => ?_) (fun c => ?_)
        · have h := h1 c; clear h1 h2
          refine lv_iinc (v := x3 + 1) (lv' := [(3, .int (x3 + 1)), (0, .ref a0), (1, .ref a1), (2, .int x2)]) C.x C.b dX9_lay_80 hl (k := 3) rfl rfl (by decide) rfl (fun ls hl => ?_)
          refine lv_goto (tgt := 11) C.x C.b dX9_lay_83 (by decide) ?_
          exact h H locs ls hR hS (lv_sub hl [1, 2, 3, 0] rfl)
        · have h := h2 c; clear h1 h2
          refine lv_aload_n C.x C.b dX9_lay_60 rfl (lv_at hl 0 rfl) ?_
          obtain ⟨fs_27, a_28, q1, q2, h⟩ := h
          refine z_get C hR q1 rfl (ci := 9) rfl in_X9 0 (by decide) q1419 (fun _ h => h) q2 dX9_lay_61 ?_
          refine lv_aload_n C.x C.b dX9_lay_64 rfl (lv_at hl 1 rfl) ?_
          refine lv_iload_n C.x C.b dX9_lay_65 rfl (lv_at hl 3 rfl) ?_
          refine z_callF C hR hS hl (n := 1) (C1 := RJ2) (T := TJ2) (N := 3) (ci := 0) (y := yJ2_get) (bytes := cJ2_get) (maxL := 2) (rt := (some (.object "java/lang/Object"))) (As := [.int x3]) (rest := [.ref a_28]) (x := ⟨"java/util/List", "get", "(I)Ljava/lang/Object;"⟩) h.1 rfl (lw_F q465 q381 q383 q76 q385) ⟨C.ok.2.1 _ q380, C.ok.2.1 _ q379, C.ok.2.1 _ q384, C.ok.2.1 _ q382, C.ok.2.1 _ q174⟩ hdF_J2_get (by decide) rfl rfl (Nat.le_of_ble_eq_true rfl) dX9_lay_66 h.2 (fun r g_29 hk_ => ?_) (fun x g1 h => z_out C hQ h)
          clear h; obtain ⟨r_30, rfl, h⟩ := hk_
          show GW X E 5 g_29 71 [(0, .ref a0), (1, .ref a1), (2, .int x2), (3, .int x3)] [va_rf r_30, .ref a_28]
          intro H locs ls hR hS hl
          obtain ⟨a_31, e_, h⟩ := h; subst e_
          have hl : lv_has ls 5 [(0, .ref a0), (1, .ref a1), (2, .int x2), (3, .int x3)] := by assumption
          show zV X E H locs (F0 (zm E) 71 ls [.ref a_31, .ref a_28])
          refine z_castS C hR (ci := 4) (C1 := RX4) (T := TX4) (N := 7) h.1 rfl q466 dX9_lay_71 ?_
          have h := h.2
          refine z_callF C hR hS hl (n := 1) (C1 := RJ2) (T := TJ2) (N := 3) (ci := 0) (y := yJ2_add) (bytes := cJ2_add) (maxL := 2) (rt := (some .boolean)) (As := [.ref a_31]) (rest := []) (x := ⟨"java/util/List", "add", "(Ljava/lang/Object;)Z"⟩) h.1 rfl (lw_F q468 q175 q177 q76 q179) ⟨C.ok.2.1 _ q173, C.ok.2.1 _ q172, C.ok.2.1 _ q178, C.ok.2.1 _ q176, C.ok.2.1 _ q174⟩ hdF_J2_add (by decide) rfl rfl (Nat.le_of_ble_eq_true rfl) dX9_lay_74 h.2 (fun r g_32 hk_ => ?_) (fun x g1 h => z_out C hQ h)
          clear h; obtain ⟨v_33, rfl, zb_, h⟩ := hk_
          show GW X E 5 g_32 79 [(0, .ref a0), (1, .ref a1), (2, .int x2), (3, .int x3)] [.int v_33]
          intro H locs ls hR hS hl
          refine lv_pop C.x C.b dX9_lay_79 rfl ?_
          refine lv_iinc (v := x3 + 1) (lv' := [(3, .int (x3 + 1)), (0, .ref a0), (1, .ref a1), (2, .int x2)]) C.x C.b dX9_lay_80 hl (k := 3) rfl rfl (by decide) rfl (fun ls hl => ?_)
          refine lv_goto (tgt := 11) C.x C.b dX9_lay_83 (by decide) ?_
          exact h H locs ls hR hS (lv_sub hl [1, 2, 3, 0] rfl)
set_option maxHeartbeats 4000000 in
theorem bX9_lay_88 {X : zX} {d : Nat} {E : zM} {K : Option Value → zG → Prop} {KX : String → zG → Prop} (C : zC X (d + 1) E RX9 cX9_lay 5 none "lay") (hQ : zQ X E K KX) (g : zG) (a0 : Nat) (x3 : Int32) (h : ∃ (fs_1 : List Value) (a_2 : Nat), zGo g 9 a0 = some fs_1 ∧ fs_1[2]? = some (.ref a_2) ∧ ∃ n_3 : Nat, zlen X g a_2 n_3 ∧ ∀ v_4 : Int32, v_4 = Int32.ofNat n_3 → (v_4 ≤ x3 → K none g) ∧ (¬ v_4 ≤ x3 → GW X E 5 g 100 [(0, .ref a0), (3, .int x3), (4, .int 0)] [])) : GW X E 5 g 88 [(0, .ref a0), (3, .int x3)] [] := by
  intro H locs ls hR hS hl
  refine lv_iload_n C.x C.b dX9_lay_88 rfl (lv_at hl 1 rfl) ?_
  refine lv_aload_n C.x C.b dX9_lay_89 rfl (lv_at hl 0 rfl) ?_
  obtain ⟨fs_1, a_2, q1, q2, h⟩ := h
  refine z_get C hR q1 rfl (ci := 9) rfl in_X9 2 (by decide) q1422 (fun _ h => h) q2 dX9_lay_90 ?_
  obtain ⟨n_3, q1, h⟩ := h
  refine z_alen C hR hS q1 dX9_lay_93 ?_
  have h := h _ rfl
  generalize Int32.ofNat n_3 = v_4 at h ⊢
  obtain ⟨h1, h2⟩ := h
  refine lv_icmp_ge (tgt := 136) C.x C.b dX9_lay_94 (by decide) (fun c => ?_) (fun c => ?_)
  · have h := h1 c; clear h1 h2
    exact z_vret C hQ dX9_lay_136 h H locs ls hR hS hl
  · have h := h2 c; clear h1 h2
    refine lv_iconst (v := 0) C.x C.b dX9_lay_97 (by decide) ?_
    refine lv_istore (lv' := [(4, .int 0), (0, .ref a0), (3, .int x3)]) C.x C.b dX9_lay_98 hl (by decide) rfl (fun ls hl => ?_)
    exact h H locs ls hR hS (lv_sub hl [1, 2, 0] rfl)
set_option maxHeartbeats 4000000 in
theorem bX9_lay_100 {X : zX} {d : Nat} {E : zM} {K : Option Value → zG → Prop} {KX : String → zG → Prop} (C : zC X (d + 1) E RX9 cX9_lay 5 none "lay") (hQ : zQ X E K KX) (g : zG) (a0 : Nat) (x3 : Int32) (x4 : Int32) (h : ∃ (fs_1 : List Value) (a_2 : Nat), zGo g 9 a0 = some fs_1 ∧ fs_1[0]? = some (.ref a_2) ∧ zIs g 0 a_2 ∧ zCal X d yJ2_size wJ2_size [.ref a_2] g (fun r g_3 => ∃ v_4 : Int32, r = some (.int v_4) ∧ (v_4 ≤ x4 → GW X E 5 g_3 88 [(0, .ref a0), (3, .int (x3 + 1))] []) ∧ (¬ v_4 ≤ x4 → ∃ (fs_5 : List Value) (a_6 : Nat), zGo g_3 9 a0 = some fs_5 ∧ fs_5[2]? = some (.ref a_6) ∧ ∃ (t_7 n_8 : Nat) (f_9 : Nat → Option Nat), zGq g_3 t_7 a_6 = some (n_8, f_9) ∧ vp_in x3 n_8 ∧ ∀ r_10 : Option Nat, r_10 = f_9 x3.toNatClampNeg → ∃ a_11 : Nat, r_10 = some a_11 ∧ ∃ (t_15 : Nat) (n_12 : Nat) (f_13 : Nat → Int32), zGi g_3 t_15 a_11 = some (n_12, f_13) ∧ t_15 < 100 ∧ vp_in x4 n_12 ∧ ∀ g_14 : zG, g_14 = zSi g_3 t_15 a_11 n_12 (upd f_13 x4.toNatClampNeg (-1)) → GW X E 5 g_14 100 [(0, .ref a0), (3, .int x3), (4, .int (x4 + 1))] [])) KX) : GW X E 5 g 100 [(0, .ref a0), (3, .int x3), (4, .int x4)] [] := by
  intro H locs ls hR hS hl
  refine lv_iload C.x C.b dX9_lay_100 (lv_at hl 2 rfl) ?_
  refine lv_aload_n C.x C.b dX9_lay_102 rfl (lv_at hl 0 rfl) ?_
  obtain ⟨fs_1, a_2, q1, q2, h⟩ := h
  refine z_get C hR q1 rfl (ci := 9) rfl in_X9 0 (by decide) q1419 (fun _ h => h) q2 dX9_lay_103 ?_
  refine z_callF C hR hS hl (n := 0) (C1 := RJ2) (T := TJ2) (N := 3) (ci := 0) (y := yJ2_size) (bytes := cJ2_size) (maxL := 1) (rt := (some .int)) (As := []) (rest := [.int x4]) (x := ⟨"java/util/List", "size", "()I"⟩) h.1 rfl (lw_F q463 q294 q296 q76 q298) ⟨C.ok.2.1 _ q293, C.ok.2.1 _ q292, C.ok.2.1 _ q297, C.ok.2.1 _ q295, C.ok.2.1 _ q174⟩ hdF_J2_size (by decide) rfl rfl (Nat.le_of_ble_eq_true rfl) dX9_lay_106 h.2 (fun r g_3 hk_ => ?_) (fun x g1 h => z_out C hQ h)
  clear h; obtain ⟨v_4, rfl, h⟩ := hk_
  show GW X E 5 g_3 111 [(0, .ref a0), (3, .int x3), (4, .int x4)] [.int v_4, .int x4]
  intro H locs ls hR hS hl
  obtain ⟨h1, h2⟩ := h
  refine lv_icmp_ge (tgt := 130) C.x C.b dX9_lay_111 (by decide) (fun c => ?_) (fun c => ?_)
  · have h := h1 c; clear h1 h2
    refine lv_iinc (v := x3 + 1) (lv' := [(3, .int (x3 + 1)), (0, .ref a0), (4, .int x4)]) C.x C.b dX9_lay_130 hl (k := 1) rfl rfl (by decide) rfl (fun ls hl => ?_)
    refine lv_goto (tgt := 88) C.x C.b dX9_lay_133 (by decide) ?_
    exact h H locs ls hR hS (lv_sub hl [1, 0] rfl)
  · have h := h2 c; clear h1 h2
    refine lv_aload_n C.x C.b dX9_lay_114 rfl (lv_at hl 0 rfl) ?_
    obtain ⟨fs_5, a_6, q1, q2, h⟩ := h
    refine z_get C hR q1 rfl (ci := 9) rfl in_X9 2 (by decide) q1422 (fun _ h => h) q2 dX9_lay_115 ?_
    refine lv_iload_n C.x C.b dX9_lay_118 rfl (lv_at hl 1 rfl) ?_
    obtain ⟨t_7, n_8, f_9, q1, q2, h⟩ := h
    refine z_aald C hR q1 q2 dX9_lay_119 ?_
    have h := h _ rfl
    generalize f_9 x3.toNatClampNeg = r_10 at h ⊢
    refine lv_iload C.x C.b dX9_lay_120 (lv_at hl 2 rfl) ?_
    refine lv_iconst (v := (-1)) C.x C.b dX9_lay_122 (by decide) ?_
    obtain ⟨a_11, e_, h⟩ := h; subst e_
    have hl : lv_has ls 5 [(0, .ref a0), (3, .int x3), (4, .int x4)] := by assumption
    show zV X E H locs (F0 (zm E) 123 ls [.int (-1), .int x4, .ref a_11])
    obtain ⟨t_15, n_12, f_13, q1, q0, q2, h⟩ := h
    refine z_iast C hR hS q1 q0 q2 dX9_lay_123 (fun H locs hR hS => ?_)
    have h := h _ rfl
    generalize zSi g_3 t_15 a_11 n_12 (upd f_13 x4.toNatClampNeg (-1)) = g_14 at h hR
    refine lv_iinc (v := x4 + 1) (lv' := [(4, .int (x4 + 1)), (0, .ref a0), (3, .int x3)]) C.x C.b dX9_lay_124 hl (k := 2) rfl rfl (by decide) rfl (fun ls hl => ?_)
    refine lv_goto (tgt := 100) C.x C.b dX9_lay_127 (by decide) ?_
    exact h H locs ls hR hS (lv_sub hl [1, 2, 0] rfl)
set_option maxHeartbeats 4000000 in
theorem mX9_lay {X : zX} {d : Nat} {g : zG} {K : Option Value → zG → Prop} {KX : String → zG → Prop} (hok : zOk X) (a0 : Nat) (a1 : Nat) (x2 : Int32) (h : ∀ E : zM, zC X (d + 1) E RX9 cX9_lay 5 none "lay" → zQ X E K KX → ∃ (fs_1 : List Value) (a_2 : Nat), zGo g 9 a0 = some fs_1 ∧ fs_1[0]? = some (.ref a_2) ∧ zIs g 0 a_2 ∧ zCal X d yJ2_clear wJ2_clear [.ref a_2] g (fun r g_3 => r = none ∧ GW X E 5 g_3 11 [(0, .ref a0), (1, .ref a1), (2, .int x2), (3, .int 0)] []) KX) : zCal X (d + 1) yX9_lay wX9_lay [.ref a0, .ref a1, .int x2] g K KX := by
  refine z_enter hok pn_X9 (Nat.le_of_ble_eq_true rfl) (fun E C hQ => ?_)
  have C : zC X (d + 1) E RX9 cX9_lay 5 none "lay" := C
  have h := h E C hQ
  show GW X E 5 g 0 [(0, .ref a0), (1, .ref a1), (2, .int x2)] []
  intro H locs ls hR hS hl
  refine lv_aload_n C.x C.b dX9_lay_0 rfl (lv_at hl 0 rfl) ?_
  obtain ⟨fs_1, a_2, q1, q2, h⟩ := h
  refine z_get C hR q1 rfl (ci := 9) rfl in_X9 0 (by decide) q1419 (fun _ h => h) q2 dX9_lay_1 ?_
  refine z_callF C hR hS hl (n := 0) (C1 := RJ2) (T := TJ2) (N := 3) (ci := 0) (y := yJ2_clear) (bytes := cJ2_clear) (maxL := 4) (rt := none) (As := []) (rest := []) (x := ⟨"java/util/List", "clear", "()V"⟩) h.1 rfl (lw_F q461 q303 q305 q76 q307) ⟨C.ok.2.1 _ q302, C.ok.2.1 _ q301, C.ok.2.1 _ q306, C.ok.2.1 _ q304, C.ok.2.1 _ q174⟩ hdF_J2_clear (by decide) rfl rfl (Nat.le_of_ble_eq_true rfl) dX9_lay_4 h.2 (fun r g_3 hk_ => ?_) (fun x g1 h => z_out C hQ h)
  clear h; obtain ⟨rfl, h⟩ := hk_
  show GW X E 5 g_3 9 [(0, .ref a0), (1, .ref a1), (2, .int x2)] []
  intro H locs ls hR hS hl
  refine lv_iconst (v := 0) C.x C.b dX9_lay_9 (by decide) ?_
  refine lv_istore_n (lv' := [(3, .int 0), (0, .ref a0), (1, .ref a1), (2, .int x2)]) C.x C.b dX9_lay_10 rfl hl (by decide) rfl (fun ls hl => ?_)
  exact h H locs ls hR hS (lv_sub hl [1, 2, 3, 0] rfl)
theorem hdV_X9_answer : yX9_answer.cls = RX9 ∧ yX9_answer.cls ≠ "java/lang/invoke/MethodHandle" ∧ yX9_answer.cls ≠ "java/lang/invoke/VarHandle" ∧ (parseMethodDescriptor yX9_answer.desc).map (fun d => d.parameters.length) = some 2 := by decide +kernel
set_option maxHeartbeats 4000000 in
theorem mX9_at {X : zX} {d : Nat} {g : zG} {K : Option Value → zG → Prop} {KX : String → zG → Prop} (hok : zOk X) (a0 : Nat) (a1 : Nat) (x2 : Int32) (h : ∃ (fs_1 : List Value) (a_2 : Nat), zGo g 9 a0 = some fs_1 ∧ fs_1[2]? = some (.ref a_2) ∧ ∃ (k_4 : Nat) (fs_3 : List Value) (v_5 : Int32), zkc k_4 = 7 ∧ zGo g k_4 a1 = some fs_3 ∧ fs_3[6]? = some (.int v_5) ∧ ∃ (t_6 n_7 : Nat) (f_8 : Nat → Option Nat), zGq g t_6 a_2 = some (n_7, f_8) ∧ vp_in v_5 n_7 ∧ ∀ r_9 : Option Nat, r_9 = f_8 v_5.toNatClampNeg → ∃ a_10 : Nat, r_9 = some a_10 ∧ ∃ (t_58 : Nat) (n_11 : Nat) (f_12 : Nat → Int32), zGi g t_58 a_10 = some (n_11, f_12) ∧ t_58 < 100 ∧ vp_in x2 n_11 ∧ ∀ v_13 : Int32, v_13 = f_12 x2.toNatClampNeg → (¬ v_13 = (-1) → ∃ (fs_14 : List Value) (a_15 : Nat), zGo g 9 a0 = some fs_14 ∧ fs_14[2]? = some (.ref a_15) ∧ ∃ (k_17 : Nat) (fs_16 : List Value) (v_18 : Int32), zkc k_17 = 7 ∧ zGo g k_17 a1 = some fs_16 ∧ fs_16[6]? = some (.int v_18) ∧ ∃ (t_19 n_20 : Nat) (f_21 : Nat → Option Nat), zGq g t_19 a_15 = some (n_20, f_21) ∧ vp_in v_18 n_20 ∧ ∀ r_22 : Option Nat, r_22 = f_21 v_18.toNatClampNeg → ∃ a_23 : Nat, r_22 = some a_23 ∧ ∃ (t_27 : Nat) (n_24 : Nat) (f_25 : Nat → Int32), zGi g t_27 a_23 = some (n_24, f_25) ∧ t_27 < 100 ∧ vp_in x2 n_24 ∧ ∀ v_26 : Int32, v_26 = f_25 x2.toNatClampNeg → K (some (.int v_26)) g) ∧ (v_13 = (-1) → ∃ (fs_28 : List Value) (a_29 : Nat), zGo g 9 a0 = some fs_28 ∧ fs_28[2]? = some (.ref a_29) ∧ ∃ (k_31 : Nat) (fs_30 : List Value) (v_32 : Int32), zkc k_31 = 7 ∧ zGo g k_31 a1 = some fs_30 ∧ fs_30[6]? = some (.int v_32) ∧ ∃ (t_33 n_34 : Nat) (f_35 : Nat → Option Nat), zGq g t_33 a_29 = some (n_34, f_35) ∧ vp_in v_32 n_34 ∧ ∀ r_36 : Option Nat, r_36 = f_35 v_32.toNatClampNeg → zIs g 9 a0 ∧ zCal X d yX9_answer wX9_answer [.ref a0, .ref a1, .int x2] g (fun r g_37 => ∃ v_38 : Int32, r = some (.int v_38) ∧ ∃ a_39 : Nat, r_36 = some a_39 ∧ ∃ (t_57 : Nat) (n_40 : Nat) (f_41 : Nat → Int32), zGi g_37 t_57 a_39 = some (n_40, f_41) ∧ t_57 < 100 ∧ vp_in x2 n_40 ∧ ∀ g_42 : zG, g_42 = zSi g_37 t_57 a_39 n_40 (upd f_41 x2.toNatClampNeg v_38) → ∃ (fs_43 : List Value) (a_44 : Nat), zGo g_42 9 a0 = some fs_43 ∧ fs_43[2]? = some (.ref a_44) ∧ ∃ (k_46 : Nat) (fs_45 : List Value) (v_47 : Int32), zkc k_46 = 7 ∧ zGo g_42 k_46 a1 = some fs_45 ∧ fs_45[6]? = some (.int v_47) ∧ ∃ (t_48 n_49 : Nat) (f_50 : Nat → Option Nat), zGq g_42 t_48 a_44 = some (n_49, f_50) ∧ vp_in v_47 n_49 ∧ ∀ r_51 : Option Nat, r_51 = f_50 v_47.toNatClampNeg → ∃ a_52 : Nat, r_51 = some a_52 ∧ ∃ (t_56 : Nat) (n_53 : Nat) (f_54 : Nat → Int32), zGi g_42 t_56 a_52 = some (n_53, f_54) ∧ t_56 < 100 ∧ vp_in x2 n_53 ∧ ∀ v_55 : Int32, v_55 = f_54 x2.toNatClampNeg → K (some (.int v_55)) g_42) KX)) : zCal X (d + 1) yX9_at wX9_at [.ref a0, .ref a1, .int x2] g K KX := by
  refine z_enter hok pn_X9 (Nat.le_of_ble_eq_true rfl) (fun E C hQ => ?_)
  have C : zC X (d + 1) E RX9 cX9_at 3 (some .int) "at" := C
  show GW X E 3 g 0 [(0, .ref a0), (1, .ref a1), (2, .int x2)] []
  intro H locs ls hR hS hl
  refine lv_aload_n C.x C.b dX9_at_0 rfl (lv_at hl 0 rfl) ?_
  obtain ⟨fs_1, a_2, q1, q2, h⟩ := h
  refine z_get C hR q1 rfl (ci := 9) rfl in_X9 2 (by decide) q1422 (fun _ h => h) q2 dX9_at_1 ?_
  refine lv_aload_n C.x C.b dX9_at_4 rfl (lv_at hl 1 rfl) ?_
  obtain ⟨k_4, fs_3, v_5, q0, q1, q2, h⟩ := h
  refine z_getN C hR q1 q0 (ci := 7) rfl in_X7 6 (by decide) q1261 (fun _ h => h) q2 dX9_at_5 ?_
  obtain ⟨t_6, n_7, f_8, q1, q2, h⟩ := h
  refine z_aald C hR q1 q2 dX9_at_8 ?_
  have h := h _ rfl
  generalize f_8 v_5.toNatClampNeg = r_9 at h ⊢
  refine lv_iload_n C.x C.b dX9_at_9 rfl (lv_at hl 2 rfl) ?_
  obtain ⟨a_10, e_, h⟩ := h; subst e_
  have hl : lv_has ls 3 [(0, .ref a0), (1, .ref a1), (2, .int x2)] := by assumption
  show zV X E H locs (F0 (zm E) 10 ls [.int x2, .ref a_10])
  obtain ⟨t_58, n_11, f_12, q1, q0, q2, h⟩ := h
  refine z_iald C hR q1 q0 q2 dX9_at_10 ?_
  have h := h _ rfl
  generalize f_12 x2.toNatClampNeg = v_13 at h ⊢
  refine lv_iconst (v := (-1)) C.x C.b dX9_at_11 (by decide) ?_
  obtain ⟨h1, h2⟩ := h
  refine lv_icmp_ne (tgt := 32) C.x C.b dX9_at_12 (by decide) (fun c => ?_) (fun c => ?_)
  · have h := h1 c; clear h1 h2
    refine lv_aload_n C.x C.b dX9_at_32 rfl (lv_at hl 0 rfl) ?_
    obtain ⟨fs_14, a_15, q1, q2, h⟩ := h
    refine z_get C hR q1 rfl (ci := 9) rfl in_X9 2 (by decide) q1422 (fun _ h => h) q2 dX9_at_33 ?_
    refine lv_aload_n C.x C.b dX9_at_36 rfl (lv_at hl 1 rfl) ?_
    obtain ⟨k_17, fs_16, v_18, q0, q1, q2, h⟩ := h
    refine z_getN C hR q1 q0 (ci := 7) rfl in_X7 6 (by decide) q1261 (fun _ h => h) q2 dX9_at_37 ?_
    obtain ⟨t_19, n_20, f_21, q1, q2, h⟩ := h
    refine z_aald C hR q1 q2 dX9_at_40 ?_
    have h := h _ rfl
    generalize f_21 v_18.toNatClampNeg = r_22 at h ⊢
    refine lv_iload_n C.x C.b dX9_at_41 rfl (lv_at hl 2 rfl) ?_
    obtain ⟨a_23, e_, h⟩ := h; subst e_
    have hl : lv_has ls 3 [(0, .ref a0), (1, .ref a1), (2, .int x2)] := by assumption
    show zV X E H locs (F0 (zm E) 42 ls [.int x2, .ref a_23])
    obtain ⟨t_27, n_24, f_25, q1, q0, q2, h⟩ := h
    refine z_iald C hR q1 q0 q2 dX9_at_42 ?_
    have h := h _ rfl
    generalize f_25 x2.toNatClampNeg = v_26 at h ⊢
    exact z_iret C hQ dX9_at_43 h H locs ls hR hS hl
  · have h := h2 c; clear h1 h2
    refine lv_aload_n C.x C.b dX9_at_15 rfl (lv_at hl 0 rfl) ?_
    obtain ⟨fs_28, a_29, q1, q2, h⟩ := h
    refine z_get C hR q1 rfl (ci := 9) rfl in_X9 2 (by decide) q1422 (fun _ h => h) q2 dX9_at_16 ?_
    refine lv_aload_n C.x C.b dX9_at_19 rfl (lv_at hl 1 rfl) ?_
    obtain ⟨k_31, fs_30, v_32, q0, q1, q2, h⟩ := h
    refine z_getN C hR q1 q0 (ci := 7) rfl in_X7 6 (by decide) q1261 (fun _ h => h) q2 dX9_at_20 ?_
    obtain ⟨t_33, n_34, f_35, q1, q2, h⟩ := h
    refine z_aald C hR q1 q2 dX9_at_23 ?_
    have h := h _ rfl
    generalize f_35 v_32.toNatClampNeg = r_36 at h ⊢
    refine lv_iload_n C.x C.b dX9_at_24 rfl (lv_at hl 2 rfl) ?_
    refine lv_aload_n C.x C.b dX9_at_25 rfl (lv_at hl 0 rfl) ?_
    refine lv_aload_n C.x C.b dX9_at_26 rfl (lv_at hl 1 rfl) ?_
    refine lv_iload_n C.x C.b dX9_at_27 rfl (lv_at hl 2 rfl) ?_
    refine z_callV C hR hS hl (n := 2) (C1 := RX9) (T := TX9) (N := 4) (ci := 9) (y := yX9_answer) (bytes := cX9_answer) (maxL := 3) (rt := (some .int)) (As := [.ref a1, .int x2]) (rest := [.int x2, va_rf r_36]) h.1 rfl (lw_V q474 q476 qs5 q108 q478) hdV_X9_answer (by decide) rfl rfl (by simp [zrf_cat, zc_r, zc_i, zc_n, zc_l]) dX9_at_28 h.2 (fun r g_37 hk_ => ?_) (fun x g1 h => z_out C hQ h)
    clear h; obtain ⟨v_38, rfl, h⟩ := hk_
    show GW X E 3 g_37 31 [(0, .ref a0), (1, .ref a1), (2, .int x2)] [.int v_38, .int x2, va_rf r_36]
    intro H locs ls hR hS hl
    obtain ⟨a_39, e_, h⟩ := h; subst e_
    have hl : lv_has ls 3 [(0, .ref a0), (1, .ref a1), (2, .int x2)] := by assumption
    show zV X E H locs (F0 (zm E) 31 ls [.int v_38, .int x2, .ref a_39])
    obtain ⟨t_57, n_40, f_41, q1, q0, q2, h⟩ := h
    refine z_iast C hR hS q1 q0 q2 dX9_at_31 (fun H locs hR hS => ?_)
    have h := h _ rfl
    generalize zSi g_37 t_57 a_39 n_40 (upd f_41 x2.toNatClampNeg v_38) = g_42 at h hR
    refine lv_aload_n C.x C.b dX9_at_32 rfl (lv_at hl 0 rfl) ?_
    obtain ⟨fs_43, a_44, q1, q2, h⟩ := h
    refine z_get C hR q1 rfl (ci := 9) rfl in_X9 2 (by decide) q1422 (fun _ h => h) q2 dX9_at_33 ?_
    refine lv_aload_n C.x C.b dX9_at_36 rfl (lv_at hl 1 rfl) ?_
    obtain ⟨k_46, fs_45, v_47, q0, q1, q2, h⟩ := h
    refine z_getN C hR q1 q0 (ci := 7) rfl in_X7 6 (by decide) q1261 (fun _ h => h) q2 dX9_at_37 ?_
    obtain ⟨t_48, n_49, f_50, q1, q2, h⟩ := h
    refine z_aald C hR q1 q2 dX9_at_40 ?_
    have h := h _ rfl
    generalize f_50 v_47.toNatClampNeg = r_51 at h ⊢
    refine lv_iload_n C.x C.b dX9_at_41 rfl (lv_at hl 2 rfl) ?_
    obtain ⟨a_52, e_, h⟩ := h; subst e_
    have hl : lv_has ls 3 [(0, .ref a0), (1, .ref a1), (2, .int x2)] := by assumption
    show zV X E H locs (F0 (zm E) 42 ls [.int x2, .ref a_52])
    obtain ⟨t_56, n_53, f_54, q1, q0, q2, h⟩ := h
    refine z_iald C hR q1 q0 q2 dX9_at_42 ?_
    have h := h _ rfl
    generalize f_54 x2.toNatClampNeg = v_55 at h ⊢
    exact z_iret C hQ dX9_at_43 h H locs ls hR hS hl
theorem hdS_J4_abs : yJ4_abs.cls ≠ "java/lang/invoke/MethodHandle" ∧ yJ4_abs.cls ≠ "java/lang/invoke/VarHandle" ∧ (parseMethodDescriptor yJ4_abs.desc).map (fun d => d.parameters.length) = some 1 := by decide +kernel
set_option maxHeartbeats 4000000 in
theorem mX9_isNear {X : zX} {d : Nat} {g : zG} {K : Option Value → zG → Prop} {KX : String → zG → Prop} (hok : zOk X) (a0 : Nat) (x1 : Int32) (x2 : Int32) (x3 : Int32) (h : (x3 = (-1) → K (some (.int 1)) g) ∧ (¬ x3 = (-1) → ∃ (fs_1 : List Value) (a_2 : Nat), zGo g 9 a0 = some fs_1 ∧ fs_1[0]? = some (.ref a_2) ∧ zIs g 0 a_2 ∧ zCal X d yJ2_get wJ2_get [.ref a_2, .int x1] g (fun r g_3 => ∃ r_4 : Option Nat, r = some (va_rf r_4) ∧ ∃ a_5 : Nat, r_4 = some a_5 ∧ zIs g_3 4 a_5 ∧ ∃ (fs_6 : List Value) (v_7 : Int32), zGo g_3 4 a_5 = some fs_6 ∧ fs_6[1]? = some (.int v_7) ∧ ∃ (fs_8 : List Value) (a_9 : Nat), zGo g_3 9 a0 = some fs_8 ∧ fs_8[0]? = some (.ref a_9) ∧ zIs g_3 0 a_9 ∧ zCal X d yJ2_get wJ2_get [.ref a_9, .int x2] g_3 (fun r g_10 => ∃ r_11 : Option Nat, r = some (va_rf r_11) ∧ ∃ a_12 : Nat, r_11 = some a_12 ∧ zIs g_10 4 a_12 ∧ ∃ (fs_13 : List Value) (v_14 : Int32), zGo g_10 4 a_12 = some fs_13 ∧ fs_13[1]? = some (.int v_14) ∧ zCal X d yJ4_abs wJ4_abs [.int (v_7 - v_14)] g_10 (fun r g_15 => ∃ v_16 : Int32, r = some (.int v_16) ∧ (x3 < v_16 → K (some (.int 0)) g_15) ∧ (¬ x3 < v_16 → K (some (.int 1)) g_15)) KX) KX) KX)) : zCal X (d + 1) yX9_isNear wX9_isNear [.ref a0, .int x1, .int x2, .int x3] g K KX := by
  refine z_enter hok pn_X9 (Nat.le_of_ble_eq_true rfl) (fun E C hQ => ?_)
  have C : zC X (d + 1) E RX9 cX9_isNear 4 (some .boolean) "isNear" := C
  show GW X E 4 g 0 [(0, .ref a0), (1, .int x1), (2, .int x2), (3, .int x3)] []
  intro H locs ls hR hS hl
  refine lv_iload_n C.x C.b dX9_isNear_0 rfl (lv_at hl 3 rfl) ?_
  refine lv_iconst (v := (-1)) C.x C.b dX9_isNear_1 (by decide) ?_
  obtain ⟨h1, h2⟩ := h
  refine lv_icmp_eq (tgt := 45) C.x C.b dX9_isNear_2 (by decide) (fun c => ?_) (fun c => ?_)
  · have h := h1 c; clear h1 h2
    refine lv_iconst (v := 1) C.x C.b dX9_isNear_45 (by decide) ?_
    refine lv_goto (tgt := 50) C.x C.b dX9_isNear_46 (by decide) ?_
    exact z_zret C hQ rfl dX9_isNear_50 h H locs ls hR hS hl
  · have h := h2 c; clear h1 h2
    refine lv_aload_n C.x C.b dX9_isNear_5 rfl (lv_at hl 0 rfl) ?_
    obtain ⟨fs_1, a_2, q1, q2, h⟩ := h
    refine z_get C hR q1 rfl (ci := 9) rfl in_X9 0 (by decide) q1419 (fun _ h => h) q2 dX9_isNear_6 ?_
    refine lv_iload_n C.x C.b dX9_isNear_9 rfl (lv_at hl 1 rfl) ?_
    refine z_callF C hR hS hl (n := 1) (C1 := RJ2) (T := TJ2) (N := 3) (ci := 0) (y := yJ2_get) (bytes := cJ2_get) (maxL := 2) (rt := (some (.object "java/lang/Object"))) (As := [.int x1]) (rest := []) (x := ⟨"java/util/List", "get", "(I)Ljava/lang/Object;"⟩) h.1 rfl (lw_F q465 q381 q383 q76 q385) ⟨C.ok.2.1 _ q380, C.ok.2.1 _ q379, C.ok.2.1 _ q384, C.ok.2.1 _ q382, C.ok.2.1 _ q174⟩ hdF_J2_get (by decide) rfl rfl (Nat.le_of_ble_eq_true rfl) dX9_isNear_10 h.2 (fun r g_3 hk_ => ?_) (fun x g1 h => z_out C hQ h)
    clear h; obtain ⟨r_4, rfl, h⟩ := hk_
    show GW X E 4 g_3 15 [(0, .ref a0), (1, .int x1), (2, .int x2), (3, .int x3)] [va_rf r_4]
    intro H locs ls hR hS hl
    obtain ⟨a_5, e_, h⟩ := h; subst e_
    have hl : lv_has ls 4 [(0, .ref a0), (1, .int x1), (2, .int x2), (3, .int x3)] := by assumption
    show zV X E H locs (F0 (zm E) 15 ls [.ref a_5])
    refine z_castS C hR (ci := 4) (C1 := RX4) (T := TX4) (N := 7) h.1 rfl q466 dX9_isNear_15 ?_
    have h := h.2
    obtain ⟨fs_6, v_7, q1, q2, h⟩ := h
    refine z_getN C hR q1 rfl (ci := 4) rfl in_X4 1 (by decide) q787 (fun _ h => h) q2 dX9_isNear_18 ?_
    refine lv_aload_n C.x C.b dX9_isNear_21 rfl (lv_at hl 0 rfl) ?_
    obtain ⟨fs_8, a_9, q1, q2, h⟩ := h
    refine z_get C hR q1 rfl (ci := 9) rfl in_X9 0 (by decide) q1419 (fun _ h => h) q2 dX9_isNear_22 ?_
    refine lv_iload_n C.x C.b dX9_isNear_25 rfl (lv_at hl 2 rfl) ?_
    refine z_callF C hR hS hl (n := 1) (C1 := RJ2) (T := TJ2) (N := 3) (ci := 0) (y := yJ2_get) (bytes := cJ2_get) (maxL := 2) (rt := (some (.object "java/lang/Object"))) (As := [.int x2]) (rest := [.int v_7]) (x := ⟨"java/util/List", "get", "(I)Ljava/lang/Object;"⟩) h.1 rfl (lw_F q465 q381 q383 q76 q385) ⟨C.ok.2.1 _ q380, C.ok.2.1 _ q379, C.ok.2.1 _ q384, C.ok.2.1 _ q382, C.ok.2.1 _ q174⟩ hdF_J2_get (by decide) rfl rfl (Nat.le_of_ble_eq_true rfl) dX9_isNear_26 h.2 (fun r g_10 hk_ => ?_) (fun x g1 h => z_out C hQ h)
    clear h; obtain ⟨r_11, rfl, h⟩ := hk_
    show GW X E 4 g_10 31 [(0, .ref a0), (1, .int x1), (2, .int x2), (3, .int x3)] [va_rf r_11, .int v_7]
    intro H locs ls hR hS hl
    obtain ⟨a_12, e_, h⟩ := h; subst e_
    have hl : lv_has ls 4 [(0, .ref a0), (1, .int x1), (2, .int x2), (3, .int x3)] := by assumption
    show zV X E H locs (F0 (zm E) 31 ls [.ref a_12, .int v_7])
    refine z_castS C hR (ci := 4) (C1 := RX4) (T := TX4) (N := 7) h.1 rfl q466 dX9_isNear_31 ?_
    have h := h.2
    obtain ⟨fs_13, v_14, q1, q2, h⟩ := h
    refine z_getN C hR q1 rfl (ci := 4) rfl in_X4 1 (by decide) q787 (fun _ h => h) q2 dX9_isNear_34 ?_
    refine lv_isub C.x C.b dX9_isNear_37 ?_
    refine z_callS C hR hS hl (n := 1) (y := yJ4_abs) (bytes := cJ4_abs) (maxL := 1) (rt := (some .int)) (As := [.int (v_7 - v_14)]) (rest := []) (lw_S q511 q512 q79 q513) hdS_J4_abs (by decide) rfl rfl (Nat.le_of_ble_eq_true rfl) dX9_isNear_38 h (fun r g_15 hk_ => ?_) (fun x g1 h => z_out C hQ h)
    clear h; obtain ⟨v_16, rfl, h⟩ := hk_
    show GW X E 4 g_15 41 [(0, .ref a0), (1, .int x1), (2, .int x2), (3, .int x3)] [.int v_16]
    intro H locs ls hR hS hl
    refine lv_iload_n C.x C.b dX9_isNear_41 rfl (lv_at hl 3 rfl) ?_
    obtain ⟨h1, h2⟩ := h
    refine lv_icmp_gt (tgt := 49) C.x C.b dX9_isNear_42 (by decide) (fun c => ?_) (fun c => ?_)
    · have h := h1 c; clear h1 h2
      refine lv_iconst (v := 0) C.x C.b dX9_isNear_49 (by decide) ?_
      exact z_zret C hQ rfl dX9_isNear_50 h H locs ls hR hS hl
    · have h := h2 c; clear h1 h2
      refine lv_iconst (v := 1) C.x C.b dX9_isNear_45 (by decide) ?_
      refine lv_goto (tgt := 50) C.x C.b dX9_isNear_46 (by decide) ?_
      exact z_zret C hQ rfl dX9_isNear_50 h H locs ls hR hS hl
set_option maxHeartbeats 4000000 in
theorem mX9_mayCome {X : zX} {d : Nat} {g : zG} {K : Option Value → zG → Prop} {KX : String → zG → Prop} (hok : zOk X) (a0 : Nat) (x1 : Int32) (x2 : Int32) (h : ∃ (fs_1 : List Value) (a_2 : Nat), zGo g 9 a0 = some fs_1 ∧ fs_1[3]? = some (.ref a_2) ∧ ∃ (fs_3 : List Value) (v_4 : Int32), zGo g 1 a_2 = some fs_3 ∧ fs_3[6]? = some (.int v_4) ∧ (v_4 = 0 → K (some (.int 0)) g) ∧ (¬ v_4 = 0 → (x2 = (-1) → K (some (.int 1)) g) ∧ (¬ x2 = (-1) → ∃ (fs_5 : List Value) (a_6 : Nat), zGo g 9 a0 = some fs_5 ∧ fs_5[3]? = some (.ref a_6) ∧ ∃ (fs_7 : List Value) (v_8 : Int32), zGo g 1 a_6 = some fs_7 ∧ fs_7[5]? = some (.int v_8) ∧ ∃ (fs_9 : List Value) (a_10 : Nat), zGo g 9 a0 = some fs_9 ∧ fs_9[0]? = some (.ref a_10) ∧ zIs g 0 a_10 ∧ zCal X d yJ2_get wJ2_get [.ref a_10, .int x1] g (fun r g_11 => ∃ r_12 : Option Nat, r = some (va_rf r_12) ∧ ∃ a_13 : Nat, r_12 = some a_13 ∧ zIs g_11 4 a_13 ∧ ∃ (fs_14 : List Value) (v_15 : Int32), zGo g_11 4 a_13 = some fs_14 ∧ fs_14[1]? = some (.int v_15) ∧ (x2 < (v_8 - v_15) → K (some (.int 0)) g_11) ∧ (¬ x2 < (v_8 - v_15) → K (some (.int 1)) g_11)) KX))) : zCal X (d + 1) yX9_mayCome wX9_mayCome [.ref a0, .int x1, .int x2] g K KX := by
  refine z_enter hok pn_X9 (Nat.le_of_ble_eq_true rfl) (fun E C hQ => ?_)
  have C : zC X (d + 1) E RX9 cX9_mayCome 3 (some .boolean) "mayCome" := C
  show GW X E 3 g 0 [(0, .ref a0), (1, .int x1), (2, .int x2)] []
  intro H locs ls hR hS hl
  refine lv_aload_n C.x C.b dX9_mayCome_0 rfl (lv_at hl 0 rfl) ?_
  obtain ⟨fs_1, a_2, q1, q2, h⟩ := h
  refine z_get C hR q1 rfl (ci := 9) rfl in_X9 3 (by decide) q1424 (fun _ h => h) q2 dX9_mayCome_1 ?_
  obtain ⟨fs_3, v_4, q1, q2, h⟩ := h
  refine z_getN C hR q1 rfl (ci := 1) rfl in_X1 6 (by decide) q254 (fun _ h => h) q2 dX9_mayCome_4 ?_
  obtain ⟨h1, h2⟩ := h
  refine lv_if_eq (tgt := 47) C.x C.b dX9_mayCome_7 (by decide) (fun c => ?_) (fun c => ?_)
  · have h := h1 c; clear h1 h2
    refine lv_iconst (v := 0) C.x C.b dX9_mayCome_47 (by decide) ?_
    exact z_zret C hQ rfl dX9_mayCome_48 h H locs ls hR hS hl
  · have h := h2 c; clear h1 h2
    refine lv_iload_n C.x C.b dX9_mayCome_10 rfl (lv_at hl 2 rfl) ?_
    refine lv_iconst (v := (-1)) C.x C.b dX9_mayCome_11 (by decide) ?_
    obtain ⟨h1, h2⟩ := h
    refine lv_icmp_eq (tgt := 43) C.x C.b dX9_mayCome_12 (by decide) (fun c => ?_) (fun c => ?_)
    · have h := h1 c; clear h1 h2
      refine lv_iconst (v := 1) C.x C.b dX9_mayCome_43 (by decide) ?_
      refine lv_goto (tgt := 48) C.x C.b dX9_mayCome_44 (by decide) ?_
      exact z_zret C hQ rfl dX9_mayCome_48 h H locs ls hR hS hl
    · have h := h2 c; clear h1 h2
      refine lv_aload_n C.x C.b dX9_mayCome_15 rfl (lv_at hl 0 rfl) ?_
      obtain ⟨fs_5, a_6, q1, q2, h⟩ := h
      refine z_get C hR q1 rfl (ci := 9) rfl in_X9 3 (by decide) q1424 (fun _ h => h) q2 dX9_mayCome_16 ?_
      obtain ⟨fs_7, v_8, q1, q2, h⟩ := h
      refine z_getN C hR q1 rfl (ci := 1) rfl in_X1 5 (by decide) q251 (fun _ h => h) q2 dX9_mayCome_19 ?_
      refine lv_aload_n C.x C.b dX9_mayCome_22 rfl (lv_at hl 0 rfl) ?_
      obtain ⟨fs_9, a_10, q1, q2, h⟩ := h
      refine z_get C hR q1 rfl (ci := 9) rfl in_X9 0 (by decide) q1419 (fun _ h => h) q2 dX9_mayCome_23 ?_
      refine lv_iload_n C.x C.b dX9_mayCome_26 rfl (lv_at hl 1 rfl) ?_
      refine z_callF C hR hS hl (n := 1) (C1 := RJ2) (T := TJ2) (N := 3) (ci := 0) (y := yJ2_get) (bytes := cJ2_get) (maxL := 2) (rt := (some (.object "java/lang/Object"))) (As := [.int x1]) (rest := [.int v_8]) (x := ⟨"java/util/List", "get", "(I)Ljava/lang/Object;"⟩) h.1 rfl (lw_F q465 q381 q383 q76 q385) ⟨C.ok.2.1 _ q380, C.ok.2.1 _ q379, C.ok.2.1 _ q384, C.ok.2.1 _ q382, C.ok.2.1 _ q174⟩ hdF_J2_get (by decide) rfl rfl (Nat.le_of_ble_eq_true rfl) dX9_mayCome_27 h.2 (fun r g_11 hk_ => ?_) (fun x g1 h => z_out C hQ h)
      clear h; obtain ⟨r_12, rfl, h⟩ := hk_
      show GW X E 3 g_11 32 [(0, .ref a0), (1, .int x1), (2, .int x2)] [va_rf r_12, .int v_8]
      intro H locs ls hR hS hl
      obtain ⟨a_13, e_, h⟩ := h; subst e_
      have hl : lv_has ls 3 [(0, .ref a0), (1, .int x1), (2, .int x2)] := by assumption
      show zV X E H locs (F0 (zm E) 32 ls [.ref a_13, .int v_8])
      refine z_castS C hR (ci := 4) (C1 := RX4) (T := TX4) (N := 7) h.1 rfl q466 dX9_mayCome_32 ?_
      have h := h.2
      obtain ⟨fs_14, v_15, q1, q2, h⟩ := h
      refine z_getN C hR q1 rfl (ci := 4) rfl in_X4 1 (by decide) q787 (fun _ h => h) q2 dX9_mayCome_35 ?_
      refine lv_isub C.x C.b dX9_mayCome_38 ?_
      refine lv_iload_n C.x C.b dX9_mayCome_39 rfl (lv_at hl 2 rfl) ?_
      obtain ⟨h1, h2⟩ := h
      refine lv_icmp_gt (tgt := 47) C.x C.b dX9_mayCome_40 (by decide) (fun c => ?_) (fun c => ?_)
      · have h := h1 c; clear h1 h2
        refine lv_iconst (v := 0) C.x C.b dX9_mayCome_47 (by decide) ?_
        exact z_zret C hQ rfl dX9_mayCome_48 h H locs ls hR hS hl
      · have h := h2 c; clear h1 h2
        refine lv_iconst (v := 1) C.x C.b dX9_mayCome_43 (by decide) ?_
        refine lv_goto (tgt := 48) C.x C.b dX9_mayCome_44 (by decide) ?_
        exact z_zret C hQ rfl dX9_mayCome_48 h H locs ls hR hS hl
theorem hdS_X1_and : yX1_and.cls ≠ "java/lang/invoke/MethodHandle" ∧ yX1_and.cls ≠ "java/lang/invoke/VarHandle" ∧ (parseMethodDescriptor yX1_and.desc).map (fun d => d.parameters.length) = some 2 := by decide +kernel
theorem hdS_X1_or : yX1_or.cls ≠ "java/lang/invoke/MethodHandle" ∧ yX1_or.cls ≠ "java/lang/invoke/VarHandle" ∧ (parseMethodDescriptor yX1_or.desc).map (fun d => d.parameters.length) = some 2 := by decide +kernel
theorem hdV_X9_at : yX9_at.cls = RX9 ∧ yX9_at.cls ≠ "java/lang/invoke/MethodHandle" ∧ yX9_at.cls ≠ "java/lang/invoke/VarHandle" ∧ (parseMethodDescriptor yX9_at.desc).map (fun d => d.parameters.length) = some 2 := by decide +kernel
theorem hdV_X9_isNear : yX9_isNear.cls = RX9 ∧ yX9_isNear.cls ≠ "java/lang/invoke/MethodHandle" ∧ yX9_isNear.cls ≠ "java/lang/invoke/VarHandle" ∧ (parseMethodDescriptor yX9_isNear.desc).map (fun d => d.parameters.length) = some 3 := by decide +kernel
theorem hdV_X9_mayCome : yX9_mayCome.cls = RX9 ∧ yX9_mayCome.cls ≠ "java/lang/invoke/MethodHandle" ∧ yX9_mayCome.cls ≠ "java/lang/invoke/VarHandle" ∧ (parseMethodDescriptor yX9_mayCome.desc).map (fun d => d.parameters.length) = some 2 := by decide +kernel
set_option maxHeartbeats 4000000 in
theorem bX9_ahead_25 {X : zX} {d : Nat} {E : zM} {K : Option Value → zG → Prop} {KX : String → zG → Prop} (C : zC X (d + 1) E RX9 cX9_ahead 7 (some .int) "ahead") (hQ : zQ X E K KX) (g : zG) (a0 : Nat) (a1 : Nat) (x2 : Int32) (x3 : Int32) (x4 : Int32) (x5 : Int32) (x6 : Int32) (h : ∃ (fs_1 : List Value) (a_2 : Nat), zGo g 9 a0 = some fs_1 ∧ fs_1[0]? = some (.ref a_2) ∧ zIs g 0 a_2 ∧ zCal X d yJ2_size wJ2_size [.ref a_2] g (fun r g_3 => ∃ v_4 : Int32, r = some (.int v_4) ∧ (v_4 ≤ x6 → ∃ (k_6 : Nat) (fs_5 : List Value) (v_7 : Int32), zkc k_6 = 7 ∧ zGo g_3 k_6 a1 = some fs_5 ∧ fs_5[2]? = some (.int v_7) ∧ zIs g_3 9 a0 ∧ zCal X d yX9_mayCome wX9_mayCome [.ref a0, .int x2, .int v_7] g_3 (fun r g_8 => ∃ v_9 : Int32, r = some (.int v_9) ∧ zbo v_9 ∧ (v_9 = 0 → K (some (.int x4)) g_8) ∧ (¬ v_9 = 0 → zCal X d yX1_and wX1_and [.int x5, .int 2] g_8 (fun r g_10 => ∃ v_11 : Int32, r = some (.int v_11) ∧ zCal X d yX1_or wX1_or [.int x4, .int v_11] g_10 (fun r g_12 => ∃ v_13 : Int32, r = some (.int v_13) ∧ K (some (.int v_13)) g_12) KX) KX)) KX) ∧ (¬ v_4 ≤ x6 → ∃ (k_15 : Nat) (fs_14 : List Value) (v_16 : Int32), zkc k_15 = 7 ∧ zGo g_3 k_15 a1 = some fs_14 ∧ fs_14[2]? = some (.int v_16) ∧ zIs g_3 9 a0 ∧ zCal X d yX9_isNear wX9_isNear [.ref a0, .int x6, .int x2, .int v_16] g_3 (fun r g_17 => ∃ v_18 : Int32, r = some (.int v_18) ∧ zbo v_18 ∧ (v_18 = 0 → ∃ (k_20 : Nat) (fs_19 : List Value) (v_21 : Int32), zkc k_20 = 7 ∧ zGo g_17 k_20 a1 = some fs_19 ∧ fs_19[2]? = some (.int v_21) ∧ zIs g_17 9 a0 ∧ zCal X d yX9_mayCome wX9_mayCome [.ref a0, .int x2, .int v_21] g_17 (fun r g_22 => ∃ v_23 : Int32, r = some (.int v_23) ∧ zbo v_23 ∧ (v_23 = 0 → K (some (.int x4)) g_22) ∧ (¬ v_23 = 0 → zCal X d yX1_and wX1_and [.int x5, .int 2] g_22 (fun r g_24 => ∃ v_25 : Int32, r = some (.int v_25) ∧ zCal X d yX1_or wX1_or [.int x4, .int v_25] g_24 (fun r g_26 => ∃ v_27 : Int32, r = some (.int v_27) ∧ K (some (.int v_27)) g_26) KX) KX)) KX) ∧ (¬ v_18 = 0 → (x3 = 0 → ∃ (k_29 : Nat) (fs_28 : List Value) (r_30 : Option Nat), zkc k_29 = 7 ∧ zGo g_17 k_29 a1 = some fs_28 ∧ fs_28[4]? = some (va_rf r_30) ∧ zIs g_17 9 a0 ∧ zCal X d yX9_at wX9_at [.ref a0, va_rf r_30, .int x6] g_17 (fun r g_31 => ∃ v_32 : Int32, r = some (.int v_32) ∧ zCal X d yX1_and wX1_and [.int x5, .int v_32] g_31 (fun r g_33 => ∃ v_34 : Int32, r = some (.int v_34) ∧ zCal X d yX1_or wX1_or [.int x4, .int v_34] g_33 (fun r g_35 => ∃ v_36 : Int32, r = some (.int v_36) ∧ (x3 = 0 → ∃ (k_38 : Nat) (fs_37 : List Value) (r_39 : Option Nat), zkc k_38 = 7 ∧ zGo g_35 k_38 a1 = some fs_37 ∧ fs_37[3]? = some (va_rf r_39) ∧ zIs g_35 9 a0 ∧ zCal X d yX9_at wX9_at [.ref a0, va_rf r_39, .int x6] g_35 (fun r g_40 => ∃ v_41 : Int32, r = some (.int v_41) ∧ zCal X d yX1_and wX1_and [.int x5, .int v_41] g_40 (fun r g_42 => ∃ v_43 : Int32, r = some (.int v_43) ∧ GW X E 7 g_42 25 [(0, .ref a0), (1, .ref a1), (2, .int x2), (3, .int x3), (4, .int v_36), (5, .int v_43), (6, .int (x6 + 1))] []) KX) KX) ∧ (¬ x3 = 0 → GW X E 7 g_35 25 [(0, .ref a0), (1, .ref a1), (2, .int x2), (3, .int x3), (4, .int v_36), (5, .int 1), (6, .int (x6 + 1))] [])) KX) KX) KX) ∧ (¬ x3 = 0 → ∃ (k_45 : Nat) (fs_44 : List Value) (r_46 : Option Nat), zkc k_45 = 7 ∧ zGo g_17 k_45 a1 = some fs_44 ∧ fs_44[3]? = some (va_rf r_46) ∧ zIs g_17 9 a0 ∧ zCal X d yX9_at wX9_at [.ref a0, va_rf r_46, .int x6] g_17 (fun r g_47 => ∃ v_48 : Int32, r = some (.int v_48) ∧ zCal X d yX1_and wX1_and [.int x5, .int v_48] g_47 (fun r g_49 => ∃ v_50 : Int32, r = some (.int v_50) ∧ zCal X d yX1_or wX1_or [.int x4, .int v_50] g_49 (fun r g_51 => ∃ v_52 : Int32, r = some (.int v_52) ∧ (x3 = 0 → ∃ (k_54 : Nat) (fs_53 : List Value) (r_55 : Option Nat), zkc k_54 = 7 ∧ zGo g_51 k_54 a1 = some fs_53 ∧ fs_53[3]? = some (va_rf r_55) ∧ zIs g_51 9 a0 ∧ zCal X d yX9_at wX9_at [.ref a0, va_rf r_55, .int x6] g_51 (fun r g_56 => ∃ v_57 : Int32, r = some (.int v_57) ∧ zCal X d yX1_and wX1_and [.int x5, .int v_57] g_56 (fun r g_58 => ∃ v_59 : Int32, r = some (.int v_59) ∧ GW X E 7 g_58 25 [(0, .ref a0), (1, .ref a1), (2, .int x2), (3, .int x3), (4, .int v_52), (5, .int v_59), (6, .int (x6 + 1))] []) KX) KX) ∧ (¬ x3 = 0 → GW X E 7 g_51 25 [(0, .ref a0), (1, .ref a1), (2, .int x2), (3, .int x3), (4, .int v_52), (5, .int 1), (6, .int (x6 + 1))] [])) KX) KX) KX))) KX)) KX) : GW X E 7 g 25 [(0, .ref a0), (1, .ref a1), (2, .int x2), (3, .int x3), (4, .int x4), (5, .int x5), (6, .int x6)] [] := by
  intro H locs ls hR hS hl
  refine lv_iload C.x C.b dX9_ahead_25 (lv_at hl 6 rfl) ?_
  refine lv_aload_n C.x C.b dX9_ahead_27 rfl (lv_at hl 0 rfl) ?_
  obtain ⟨fs_1, a_2, q1, q2, h⟩ := h
  refine z_get C hR q1 rfl (ci := 9) rfl in_X9 0 (by decide) q1419 (fun _ h => h) q2 dX9_ahead_28 ?_
  refine z_callF C hR hS hl (n := 0) (C1 := RJ2) (T := TJ2) (N := 3) (ci := 0) (y := yJ2_size) (bytes := cJ2_size) (maxL := 1) (rt := (some .int)) (As := []) (rest := [.int x6]) (x := ⟨"java/util/List", "size", "()I"⟩) h.1 rfl (lw_F q463 q294 q296 q76 q298) ⟨C.ok.2.1 _ q293, C.ok.2.1 _ q292, C.ok.2.1 _ q297, C.ok.2.1 _ q295, C.ok.2.1 _ q174⟩ hdF_J2_size (by decide) rfl rfl (Nat.le_of_ble_eq_true rfl) dX9_ahead_31 h.2 (fun r g_3 hk_ => ?_) (fun x g1 h => z_out C hQ h)
  clear h; obtain ⟨v_4, rfl, h⟩ := hk_
  show GW X E 7 g_3 36 [(0, .ref a0), (1, .ref a1), (2, .int x2), (3, .int x3), (4, .int x4), (5, .int x5), (6, .int x6)] [.int v_4, .int x6]
  intro H locs ls hR hS hl
  obtain ⟨h1, h2⟩ := h
  refine lv_icmp_ge (tgt := 117) C.x C.b dX9_ahead_36 (by decide) (fun c => ?_) (fun c => ?_)
  · have h := h1 c; clear h1 h2
    refine lv_aload_n C.x C.b dX9_ahead_117 rfl (lv_at hl 0 rfl) ?_
    refine lv_iload_n C.x C.b dX9_ahead_118 rfl (lv_at hl 2 rfl) ?_
    refine lv_aload_n C.x C.b dX9_ahead_119 rfl (lv_at hl 1 rfl) ?_
    obtain ⟨k_6, fs_5, v_7, q0, q1, q2, h⟩ := h
    refine z_getN C hR q1 q0 (ci := 7) rfl in_X7 2 (by decide) q1253 (fun _ h => h) q2 dX9_ahead_120 ?_
    refine z_callV C hR hS hl (n := 2) (C1 := RX9) (T := TX9) (N := 4) (ci := 9) (y := yX9_mayCome) (bytes := cX9_mayCome) (maxL := 3) (rt := (some .boolean)) (As := [.int x2, .int v_7]) (rest := []) h.1 rfl (lw_V q524 q526 qs10 q108 q527) hdV_X9_mayCome (by decide) rfl rfl (Nat.le_of_ble_eq_true rfl) dX9_ahead_123 h.2 (fun r g_8 hk_ => ?_) (fun x g1 h => z_out C hQ h)
    clear h; obtain ⟨v_9, rfl, zb_, h⟩ := hk_
    show GW X E 7 g_8 126 [(0, .ref a0), (1, .ref a1), (2, .int x2), (3, .int x3), (4, .int x4), (5, .int x5), (6, .int x6)] [.int v_9]
    intro H locs ls hR hS hl
    obtain ⟨h1, h2⟩ := h
    refine lv_if_eq (tgt := 143) C.x C.b dX9_ahead_126 (by decide) (fun c => ?_) (fun c => ?_)
    · have h := h1 c; clear h1 h2
      refine lv_iload C.x C.b dX9_ahead_143 (lv_at hl 4 rfl) ?_
      exact z_iret C hQ dX9_ahead_145 h H locs ls hR hS hl
    · have h := h2 c; clear h1 h2
      refine lv_iload C.x C.b dX9_ahead_129 (lv_at hl 4 rfl) ?_
      refine lv_iload C.x C.b dX9_ahead_131 (lv_at hl 5 rfl) ?_
      refine lv_iconst (v := 2) C.x C.b dX9_ahead_133 (by decide) ?_
      refine z_callSN C hR hS hl (n := 2) (y := yX1_and) (bytes := cX1_and) (maxL := 2) (rt := (some .int)) (As := [.int x5, .int 2]) (rest := [.int x4]) (lw_meth q497) (C.nestM q495) (C.ts _ q73) (C.ts _ q496) hdS_X1_and (by decide) rfl rfl (Nat.le_of_ble_eq_true rfl) dX9_ahead_134 h (fun r g_10 hk_ => ?_) (fun x g1 h => z_out C hQ h)
      clear h; obtain ⟨v_11, rfl, h⟩ := hk_
      show GW X E 7 g_10 137 [(0, .ref a0), (1, .ref a1), (2, .int x2), (3, .int x3), (4, .int x4), (5, .int x5), (6, .int x6)] [.int v_11, .int x4]
      intro H locs ls hR hS hl
      refine z_callSN C hR hS hl (n := 2) (y := yX1_or) (bytes := cX1_or) (maxL := 2) (rt := (some .int)) (As := [.int x4, .int v_11]) (rest := []) (lw_meth q500) (C.nestM q498) (C.ts _ q73) (C.ts _ q499) hdS_X1_or (by decide) rfl rfl (Nat.le_of_ble_eq_true rfl) dX9_ahead_137 h (fun r g_12 hk_ => ?_) (fun x g1 h => z_out C hQ h)
      clear h; obtain ⟨v_13, rfl, h⟩ := hk_
      show GW X E 7 g_12 140 [(0, .ref a0), (1, .ref a1), (2, .int x2), (3, .int x3), (4, .int x4), (5, .int x5), (6, .int x6)] [.int v_13]
      intro H locs ls hR hS hl
      refine lv_goto (tgt := 145) C.x C.b dX9_ahead_140 (by decide) ?_
      exact z_iret C hQ dX9_ahead_145 h H locs ls hR hS hl
  · have h := h2 c; clear h1 h2
    refine lv_aload_n C.x C.b dX9_ahead_39 rfl (lv_at hl 0 rfl) ?_
    refine lv_iload C.x C.b dX9_ahead_40 (lv_at hl 6 rfl) ?_
    refine lv_iload_n C.x C.b dX9_ahead_42 rfl (lv_at hl 2 rfl) ?_
    refine lv_aload_n C.x C.b dX9_ahead_43 rfl (lv_at hl 1 rfl) ?_
    obtain ⟨k_15, fs_14, v_16, q0, q1, q2, h⟩ := h
    refine z_getN C hR q1 q0 (ci := 7) rfl in_X7 2 (by decide) q1253 (fun _ h => h) q2 dX9_ahead_44 ?_
    refine z_callV C hR hS hl (n := 3) (C1 := RX9) (T := TX9) (N := 4) (ci := 9) (y := yX9_isNear) (bytes := cX9_isNear) (maxL := 4) (rt := (some .boolean)) (As := [.int x6, .int x2, .int v_16]) (rest := []) h.1 rfl (lw_V q507 q509 qs7 q108 q510) hdV_X9_isNear (by decide) rfl rfl (Nat.le_of_ble_eq_true rfl) dX9_ahead_47 h.2 (fun r g_17 hk_ => ?_) (fun x g1 h => z_out C hQ h)
    clear h; obtain ⟨v_18, rfl, zb_, h⟩ := hk_
    show GW X E 7 g_17 50 [(0, .ref a0), (1, .ref a1), (2, .int x2), (3, .int x3), (4, .int x4), (5, .int x5), (6, .int x6)] [.int v_18]
    intro H locs ls hR hS hl
    obtain ⟨h1, h2⟩ := h
    refine lv_if_eq (tgt := 117) C.x C.b dX9_ahead_50 (by decide) (fun c => ?_) (fun c => ?_)
    · have h := h1 c; clear h1 h2
      refine lv_aload_n C.x C.b dX9_ahead_117 rfl (lv_at hl 0 rfl) ?_
      refine lv_iload_n C.x C.b dX9_ahead_118 rfl (lv_at hl 2 rfl) ?_
      refine lv_aload_n C.x C.b dX9_ahead_119 rfl (lv_at hl 1 rfl) ?_
      obtain ⟨k_20, fs_19, v_21, q0, q1, q2, h⟩ := h
      refine z_getN C hR q1 q0 (ci := 7) rfl in_X7 2 (by decide) q1253 (fun _ h => h) q2 dX9_ahead_120 ?_
      refine z_callV C hR hS hl (n := 2) (C1 := RX9) (T := TX9) (N := 4) (ci := 9) (y := yX9_mayCome) (bytes := cX9_mayCome) (maxL := 3) (rt := (some .boolean)) (As := [.int x2, .int v_21]) (rest := []) h.1 rfl (lw_V q524 q526 qs10 q108 q527) hdV_X9_mayCome (by decide) rfl rfl (Nat.le_of_ble_eq_true rfl) dX9_ahead_123 h.2 (fun r g_22 hk_ => ?_) (fun x g1 h => z_out C hQ h)
      clear h; obtain ⟨v_23, rfl, zb_, h⟩ := hk_
      show GW X E 7 g_22 126 [(0, .ref a0), (1, .ref a1), (2, .int x2), (3, .int x3), (4, .int x4), (5, .int x5), (6, .int x6)] [.int v_23]
      intro H locs ls hR hS hl
      obtain ⟨h1, h2⟩ := h
      refine lv_if_eq (tgt := 143) C.x C.b dX9_ahead_126 (by decide) (fun c => ?_) (fun c => ?_)
      · have h := h1 c; clear h1 h2
        refine lv_iload C.x C.b dX9_ahead_143 (lv_at hl 4 rfl) ?_
        exact z_iret C hQ dX9_ahead_145 h H locs ls hR hS hl
      · have h := h2 c; clear h1 h2
        refine lv_iload C.x C.b dX9_ahead_129 (lv_at hl 4 rfl) ?_
        refine lv_iload C.x C.b dX9_ahead_131 (lv_at hl 5 rfl) ?_
        refine lv_iconst (v := 2) C.x C.b dX9_ahead_133 (by decide) ?_
        refine z_callSN C hR hS hl (n := 2) (y := yX1_and) (bytes := cX1_and) (maxL := 2) (rt := (some .int)) (As := [.int x5, .int 2]) (rest := [.int x4]) (lw_meth q497) (C.nestM q495) (C.ts _ q73) (C.ts _ q496) hdS_X1_and (by decide) rfl rfl (Nat.le_of_ble_eq_true rfl) dX9_ahead_134 h (fun r g_24 hk_ => ?_) (fun x g1 h => z_out C hQ h)
        clear h; obtain ⟨v_25, rfl, h⟩ := hk_
        show GW X E 7 g_24 137 [(0, .ref a0), (1, .ref a1), (2, .int x2), (3, .int x3), (4, .int x4), (5, .int x5), (6, .int x6)] [.int v_25, .int x4]
        intro H locs ls hR hS hl
        refine z_callSN C hR hS hl (n := 2) (y := yX1_or) (bytes := cX1_or) (maxL := 2) (rt := (some .int)) (As := [.int x4, .int v_25]) (rest := []) (lw_meth q500) (C.nestM q498) (C.ts _ q73) (C.ts _ q499) hdS_X1_or (by decide) rfl rfl (Nat.le_of_ble_eq_true rfl) dX9_ahead_137 h (fun r g_26 hk_ => ?_) (fun x g1 h => z_out C hQ h)
        clear h; obtain ⟨v_27, rfl, h⟩ := hk_
        show GW X E 7 g_26 140 [(0, .ref a0), (1, .ref a1), (2, .int x2), (3, .int x3), (4, .int x4), (5, .int x5), (6, .int x6)] [.int v_27]
        intro H locs ls hR hS hl
        refine lv_goto (tgt := 145) C.x C.b dX9_ahead_140 (by decide) ?_
        exact z_iret C hQ dX9_ahead_145 h H locs ls hR hS hl
    · have h := h2 c; clear h1 h2
      refine lv_iload C.x C.b dX9_ahead_53 (lv_at hl 4 rfl) ?_
      refine lv_iload C.x C.b dX9_ahead_55 (lv_at hl 5 rfl) ?_
      refine lv_aload_n C.x C.b dX9_ahead_57 rfl (lv_at hl 0 rfl) ?_
      refine lv_iload_n C.x C.b dX9_ahead_58 rfl (lv_at hl 3 rfl) ?_
      obtain ⟨h1, h2⟩ := h
      refine lv_if_eq (tgt := 69) C.x C.b dX9_ahead_59 (by decide) (fun c => ?_) (fun c => ?_)
      · have h := h1 c; clear h1 h2
        refine lv_aload_n C.x C.b dX9_ahead_69 rfl (lv_at hl 1 rfl) ?_
        obtain ⟨k_29, fs_28, r_30, q0, q1, q2, h⟩ := h
        refine z_getN C hR q1 q0 (ci := 7) rfl in_X7 4 (by decide) q1257 (fun _ h => h) q2 dX9_ahead_70 ?_
        refine lv_iload C.x C.b dX9_ahead_73 (lv_at hl 6 rfl) ?_
        refine z_callV C hR hS hl (n := 2) (C1 := RX9) (T := TX9) (N := 4) (ci := 9) (y := yX9_at) (bytes := cX9_at) (maxL := 3) (rt := (some .int)) (As := [va_rf r_30, .int x6]) (rest := [.int x5, .int x4]) h.1 rfl (lw_V q488 q489 q490 q108 q491) hdV_X9_at (by decide) rfl rfl (Nat.le_of_ble_eq_true rfl) dX9_ahead_75 h.2 (fun r g_31 hk_ => ?_) (fun x g1 h => z_out C hQ h)
        clear h; obtain ⟨v_32, rfl, h⟩ := hk_
        show GW X E 7 g_31 78 [(0, .ref a0), (1, .ref a1), (2, .int x2), (3, .int x3), (4, .int x4), (5, .int x5), (6, .int x6)] [.int v_32, .int x5, .int x4]
        intro H locs ls hR hS hl
        refine z_callSN C hR hS hl (n := 2) (y := yX1_and) (bytes := cX1_and) (maxL := 2) (rt := (some .int)) (As := [.int x5, .int v_32]) (rest := [.int x4]) (lw_meth q497) (C.nestM q495) (C.ts _ q73) (C.ts _ q496) hdS_X1_and (by decide) rfl rfl (Nat.le_of_ble_eq_true rfl) dX9_ahead_78 h (fun r g_33 hk_ => ?_) (fun x g1 h => z_out C hQ h)
        clear h; obtain ⟨v_34, rfl, h⟩ := hk_
        show GW X E 7 g_33 81 [(0, .ref a0), (1, .ref a1), (2, .int x2), (3, .int x3), (4, .int x4), (5, .int x5), (6, .int x6)] [.int v_34, .int x4]
        intro H locs ls hR hS hl
        refine z_callSN C hR hS hl (n := 2) (y := yX1_or) (bytes := cX1_or) (maxL := 2) (rt := (some .int)) (As := [.int x4, .int v_34]) (rest := []) (lw_meth q500) (C.nestM q498) (C.ts _ q73) (C.ts _ q499) hdS_X1_or (by decide) rfl rfl (Nat.le_of_ble_eq_true rfl) dX9_ahead_81 h (fun r g_35 hk_ => ?_) (fun x g1 h => z_out C hQ h)
        clear h; obtain ⟨v_36, rfl, h⟩ := hk_
        show GW X E 7 g_35 84 [(0, .ref a0), (1, .ref a1), (2, .int x2), (3, .int x3), (4, .int x4), (5, .int x5), (6, .int x6)] [.int v_36]
        intro H locs ls hR hS hl
        refine lv_istore (lv' := [(4, .int v_36), (0, .ref a0), (1, .ref a1), (2, .int x2), (3, .int x3), (5, .int x5), (6, .int x6)]) C.x C.b dX9_ahead_84 hl (by decide) rfl (fun ls hl => ?_)
        refine lv_iload_n C.x C.b dX9_ahead_86 rfl (lv_at hl 4 rfl) ?_
        obtain ⟨h1, h2⟩ := h
        refine lv_if_eq (tgt := 94) C.x C.b dX9_ahead_87 (by decide) (fun c => ?_) (fun c => ?_)
        · have h := h1 c; clear h1 h2
          refine lv_iload C.x C.b dX9_ahead_94 (lv_at hl 5 rfl) ?_
          refine lv_aload_n C.x C.b dX9_ahead_96 rfl (lv_at hl 1 rfl) ?_
          refine lv_aload_n C.x C.b dX9_ahead_97 rfl (lv_at hl 2 rfl) ?_
          obtain ⟨k_38, fs_37, r_39, q0, q1, q2, h⟩ := h
          refine z_getN C hR q1 q0 (ci := 7) rfl in_X7 3 (by decide) q1255 (fun _ h => h) q2 dX9_ahead_98 ?_
          refine lv_iload C.x C.b dX9_ahead_101 (lv_at hl 6 rfl) ?_
          refine z_callV C hR hS hl (n := 2) (C1 := RX9) (T := TX9) (N := 4) (ci := 9) (y := yX9_at) (bytes := cX9_at) (maxL := 3) (rt := (some .int)) (As := [va_rf r_39, .int x6]) (rest := [.int x5]) h.1 rfl (lw_V q488 q489 q490 q108 q491) hdV_X9_at (by decide) rfl rfl (Nat.le_of_ble_eq_true rfl) dX9_ahead_103 h.2 (fun r g_40 hk_ => ?_) (fun x g1 h => z_out C hQ h)
          clear h; obtain ⟨v_41, rfl, h⟩ := hk_
          show GW X E 7 g_40 106 [(4, .int v_36), (0, .ref a0), (1, .ref a1), (2, .int x2), (3, .int x3), (5, .int x5), (6, .int x6)] [.int v_41, .int x5]
          intro H locs ls hR hS hl
          refine z_callSN C hR hS hl (n := 2) (y := yX1_and) (bytes := cX1_and) (maxL := 2) (rt := (some .int)) (As := [.int x5, .int v_41]) (rest := []) (lw_meth q497) (C.nestM q495) (C.ts _ q73) (C.ts _ q496) hdS_X1_and (by decide) rfl rfl (Nat.le_of_ble_eq_true rfl) dX9_ahead_106 h (fun r g_42 hk_ => ?_) (fun x g1 h => z_out C hQ h)
          clear h; obtain ⟨v_43, rfl, h⟩ := hk_
          show GW X E 7 g_42 109 [(4, .int v_36), (0, .ref a0), (1, .ref a1), (2, .int x2), (3, .int x3), (5, .int x5), (6, .int x6)] [.int v_43]
          intro H locs ls hR hS hl
          refine lv_istore (lv' := [(5, .int v_43), (4, .int v_36), (0, .ref a0), (1, .ref a1), (2, .int x2), (3, .int x3), (6, .int x6)]) C.x C.b dX9_ahead_109 hl (by decide) rfl (fun ls hl => ?_)
          refine lv_iinc (v := x6 + 1) (lv' := [(6, .int (x6 + 1)), (5, .int v_43), (4, .int v_36), (0, .ref a0), (1, .ref a1), (2, .int x2), (3, .int x3)]) C.x C.b dX9_ahead_111 hl (k := 6) rfl rfl (by decide) rfl (fun ls hl => ?_)
          refine lv_goto (tgt := 25) C.x C.b dX9_ahead_114 (by decide) ?_
          exact h H locs ls hR hS (lv_sub hl [3, 4, 5, 6, 2, 1, 0] rfl)
        · have h := h2 c; clear h1 h2
          refine lv_iconst (v := 1) C.x C.b dX9_ahead_90 (by decide) ?_
          refine lv_goto (tgt := 109) C.x C.b dX9_ahead_91 (by decide) ?_
          refine lv_istore (lv' := [(5, .int 1), (4, .int v_36), (0, .ref a0), (1, .ref a1), (2, .int x2), (3, .int x3), (6, .int x6)]) C.x C.b dX9_ahead_109 hl (by decide) rfl (fun ls hl => ?_)
          refine lv_iinc (v := x6 + 1) (lv' := [(6, .int (x6 + 1)), (5, .int 1), (4, .int v_36), (0, .ref a0), (1, .ref a1), (2, .int x2), (3, .int x3)]) C.x C.b dX9_ahead_111 hl (k := 6) rfl rfl (by decide) rfl (fun ls hl => ?_)
          refine lv_goto (tgt := 25) C.x C.b dX9_ahead_114 (by decide) ?_
          exact h H locs ls hR hS (lv_sub hl [3, 4, 5, 6, 2, 1, 0] rfl)
      · have h := h2 c; clear h1 h2
        refine lv_aload_n C.x C.b dX9_ahead_62 rfl (lv_at hl 1 rfl) ?_
        obtain ⟨k_45, fs_44, r_46, q0, q1, q2, h⟩ := h
        refine z_getN C hR q1 q0 (ci := 7) rfl in_X7 3 (by decide) q1255 (fun _ h => h) q2 dX9_ahead_63 ?_
        refine lv_goto (tgt := 73) C.x C.b dX9_ahead_66 (by decide) ?_
        refine lv_iload C.x C.b dX9_ahead_73 (lv_at hl 6 rfl) ?_
        refine z_callV C hR hS hl (n := 2) (C1 := RX9) (T := TX9) (N := 4) (ci := 9) (y := yX9_at) (bytes := cX9_at) (maxL := 3) (rt := (some .int)) (As := [va_rf r_46, .int x6]) (rest := [.int x5, .int x4]) h.1 rfl (lw_V q488 q489 q490 q108 q491) hdV_X9_at (by decide) rfl rfl (Nat.le_of_ble_eq_true rfl) dX9_ahead_75 h.2 (fun r g_47 hk_ => ?_) (fun x g1 h => z_out C hQ h)
        clear h; obtain ⟨v_48, rfl, h⟩ := hk_
        show GW X E 7 g_47 78 [(0, .ref a0), (1, .ref a1), (2, .int x2), (3, .int x3), (4, .int x4), (5, .int x5), (6, .int x6)] [.int v_48, .int x5, .int x4]
        intro H locs ls hR hS hl
        refine z_callSN C hR hS hl (n := 2) (y := yX1_and) (bytes := cX1_and) (maxL := 2) (rt := (some .int)) (As := [.int x5, .int v_48]) (rest := [.int x4]) (lw_meth q497) (C.nestM q495) (C.ts _ q73) (C.ts _ q496) hdS_X1_and (by decide) rfl rfl (Nat.le_of_ble_eq_true rfl) dX9_ahead_78 h (fun r g_49 hk_ => ?_) (fun x g1 h => z_out C hQ h)
        clear h; obtain ⟨v_50, rfl, h⟩ := hk_
        show GW X E 7 g_49 81 [(0, .ref a0), (1, .ref a1), (2, .int x2), (3, .int x3), (4, .int x4), (5, .int x5), (6, .int x6)] [.int v_50, .int x4]
        intro H locs ls hR hS hl
        refine z_callSN C hR hS hl (n := 2) (y := yX1_or) (bytes := cX1_or) (maxL := 2) (rt := (some .int)) (As := [.int x4, .int v_50]) (rest := []) (lw_meth q500) (C.nestM q498) (C.ts _ q73) (C.ts _ q499) hdS_X1_or (by decide) rfl rfl (Nat.le_of_ble_eq_true rfl) dX9_ahead_81 h (fun r g_51 hk_ => ?_) (fun x g1 h => z_out C hQ h)
        clear h; obtain ⟨v_52, rfl, h⟩ := hk_
        show GW X E 7 g_51 84 [(0, .ref a0), (1, .ref a1), (2, .int x2), (3, .int x3), (4, .int x4), (5, .int x5), (6, .int x6)] [.int v_52]
        intro H locs ls hR hS hl
        refine lv_istore (lv' := [(4, .int v_52), (0, .ref a0), (1, .ref a1), (2, .int x2), (3, .int x3), (5, .int x5), (6, .int x6)]) C.x C.b dX9_ahead_84 hl (by decide) rfl (fun ls hl => ?_)
        refine lv_iload_n C.x C.b dX9_ahead_86 rfl (lv_at hl 4 rfl) ?_
        obtain ⟨h1, h2⟩ := h
        refine lv_if_eq (tgt := 94) C.x C.b dX9_ahead_87 (by decide) (fun c => ?_) (fun c => ?_)
        · have h := h1 c; clear h1 h2
          refine lv_iload C.x C.b dX9_ahead_94 (lv_at hl 5 rfl) ?_
          refine lv_aload_n C.x C.b dX9_ahead_96 rfl (lv_at hl 1 rfl) ?_
          refine lv_aload_n C.x C.b dX9_ahead_97 rfl (lv_at hl 2 rfl) ?_
          obtain ⟨k_54, fs_53, r_55, q0, q1, q2, h⟩ := h
          refine z_getN C hR q1 q0 (ci := 7) rfl in_X7 3 (by decide) q1255 (fun _ h => h) q2 dX9_ahead_98 ?_
          refine lv_iload C.x C.b dX9_ahead_101 (lv_at hl 6 rfl) ?_
          refine z_callV C hR hS hl (n := 2) (C1 := RX9) (T := TX9) (N := 4) (ci := 9) (y := yX9_at) (bytes := cX9_at) (maxL := 3) (rt := (some .int)) (As := [va_rf r_55, .int x6]) (rest := [.int x5]) h.1 rfl (lw_V q488 q489 q490 q108 q491) hdV_X9_at (by decide) rfl rfl (Nat.le_of_ble_eq_true rfl) dX9_ahead_103 h.2 (fun r g_56 hk_ => ?_) (fun x g1 h => z_out C hQ h)
          clear h; obtain ⟨v_57, rfl, h⟩ := hk_
          show GW X E 7 g_56 106 [(4, .int v_52), (0, .ref a0), (1, .ref a1), (2, .int x2), (3, .int x3), (5, .int x5), (6, .int x6)] [.int v_57, .int x5]
          intro H locs ls hR hS hl
          refine z_callSN C hR hS hl (n := 2) (y := yX1_and) (bytes := cX1_and) (maxL := 2) (rt := (some .int)) (As := [.int x5, .int v_57]) (rest := []) (lw_meth q497) (C.nestM q495) (C.ts _ q73) (C.ts _ q496) hdS_X1_and (by decide) rfl rfl (Nat.le_of_ble_eq_true rfl) dX9_ahead_106 h (fun r g_58 hk_ => ?_) (fun x g1 h => z_out C hQ h)
          clear h; obtain ⟨v_59, rfl, h⟩ := hk_
          show GW X E 7 g_58 109 [(4, .int v_52), (0, .ref a0), (1, .ref a1), (2, .int x2), (3, .int x3), (5, .int x5), (6, .int x6)] [.int v_59]
          intro H locs ls hR hS hl
          refine lv_istore (lv' := [(5, .int v_59), (4, .int v_52), (0, .ref a0), (1, .ref a1), (2, .int x2), (3, .int x3), (6, .int x6)]) C.x C.b dX9_ahead_109 hl (by decide) rfl (fun ls hl => ?_)
          refine lv_iinc (v := x6 + 1) (lv' := [(6, .int (x6 + 1)), (5, .int v_59), (4, .int v_52), (0, .ref a0), (1, .ref a1), (2, .int x2), (3, .int x3)]) C.x C.b dX9_ahead_111 hl (k := 6) rfl rfl (by decide) rfl (fun ls hl => ?_)
          refine lv_goto (tgt := 25) C.x C.b dX9_ahead_114 (by decide) ?_
          exact h H locs ls hR hS (lv_sub hl [3, 4, 5, 6, 2, 1, 0] rfl)
        · have h := h2 c; clear h1 h2
          refine lv_iconst (v := 1) C.x C.b dX9_ahead_90 (by decide) ?_
          refine lv_goto (tgt := 109) C.x C.b dX9_ahead_91 (by decide) ?_
          refine lv_istore (lv' := [(5, .int 1), (4, .int v_52), (0, .ref a0), (1, .ref a1), (2, .int x2), (3, .int x3), (6, .int x6)]) C.x C.b dX9_ahead_109 hl (by decide) rfl (fun ls hl => ?_)
          refine lv_iinc (v := x6 + 1) (lv' := [(6, .int (x6 + 1)), (5, .int 1), (4, .int v_52), (0, .ref a0), (1, .ref a1), (2, .int x2), (3, .int x3)]) C.x C.b dX9_ahead_111 hl (k := 6) rfl rfl (by decide) rfl (fun ls hl => ?_)
          refine lv_goto (tgt := 25) C.x C.b dX9_ahead_114 (by decide) ?_
          exact h H locs ls hR hS (lv_sub hl [3, 4, 5, 6, 2, 1, 0] rfl)
set_option maxHeartbeats 4000000 in
theorem mX9_ahead {X : zX} {d : Nat} {g : zG} {K : Option Value → zG → Prop} {KX : String → zG → Prop} (hok : zOk X) (a0 : Nat) (a1 : Nat) (x2 : Int32) (h : ∀ E : zM, zC X (d + 1) E RX9 cX9_ahead 7 (some .int) "ahead" → zQ X E K KX → ∃ (k_2 : Nat) (fs_1 : List Value) (a_3 : Nat), zkc k_2 = 7 ∧ zGo g k_2 a1 = some fs_1 ∧ fs_1[0]? = some (.ref a_3) ∧ (¬ a_3 = (zE X 10) → GW X E 7 g 25 [(0, .ref a0), (1, .ref a1), (2, .int x2), (3, .int 0), (4, .int 0), (5, .int 1), (6, .int x2)] []) ∧ (a_3 = (zE X 10) → GW X E 7 g 25 [(0, .ref a0), (1, .ref a1), (2, .int x2), (3, .int 1), (4, .int 0), (5, .int 1), (6, .int x2)] [])) : zCal X (d + 1) yX9_ahead wX9_ahead [.ref a0, .ref a1, .int x2] g K KX := by
  refine z_enter hok pn_X9 (Nat.le_of_ble_eq_true rfl) (fun E C hQ => ?_)
  have C : zC X (d + 1) E RX9 cX9_ahead 7 (some .int) "ahead" := C
  have h := h E C hQ
  show GW X E 7 g 0 [(0, .ref a0), (1, .ref a1), (2, .int x2)] []
  intro H locs ls hR hS hl
  refine lv_aload_n C.x C.b dX9_ahead_0 rfl (lv_at hl 1 rfl) ?_
  obtain ⟨k_2, fs_1, a_3, q0, q1, q2, h⟩ := h
  refine z_getN C hR q1 q0 (ci := 7) rfl in_X7 0 (by decide) q1249 (fun _ h => h) q2 dX9_ahead_1 ?_
  refine z_getsE C hS 10 (by decide) q522 dX9_ahead_4 ?_
  obtain ⟨h1, h2⟩ := h
  refine lv_acmp_ne (rx := (some a_3)) (ry := (some (zE X 10))) (tgt := 14) C.x C.b dX9_ahead_7 (by decide) (fun c => ?_) (fun c => ?_)
  · have h := h1 (fun z => c (congrArg some z)); clear h1 h2
    refine lv_iconst (v := 0) C.x C.b dX9_ahead_14 (by decide) ?_
    refine lv_istore_n (lv' := [(3, .int 0), (0, .ref a0), (1, .ref a1), (2, .int x2)]) C.x C.b dX9_ahead_15 rfl hl (by decide) rfl (fun ls hl => ?_)
    refine lv_iconst (v := 0) C.x C.b dX9_ahead_16 (by decide) ?_
    refine lv_istore (lv' := [(4, .int 0), (3, .int 0), (0, .ref a0), (1, .ref a1), (2, .int x2)]) C.x C.b dX9_ahead_17 hl (by decide) rfl (fun ls hl => ?_)
    refine lv_iconst (v := 1) C.x C.b dX9_ahead_19 (by decide) ?_
    refine lv_istore (lv' := [(5, .int 1), (4, .int 0), (3, .int 0), (0, .ref a0), (1, .ref a1), (2, .int x2)]) C.x C.b dX9_ahead_20 hl (by decide) rfl (fun ls hl => ?_)
    refine lv_iload_n C.x C.b dX9_ahead_22 rfl (lv_at hl 5 rfl) ?_
    refine lv_istore (lv' := [(6, .int x2), (5, .int 1), (4, .int 0), (3, .int 0), (0, .ref a0), (1, .ref a1), (2, .int x2)]) C.x C.b dX9_ahead_23 hl (by decide) rfl (fun ls hl => ?_)
    exact h H locs ls hR hS (lv_sub hl [4, 5, 6, 3, 2, 1, 0] rfl)
  · have h := h2 (Option.some.inj c); clear h1 h2
    refine lv_iconst (v := 1) C.x C.b dX9_ahead_10 (by decide) ?_
    refine lv_goto (tgt := 15) C.x C.b dX9_ahead_11 (by decide) ?_
    refine lv_istore_n (lv' := [(3, .int 1), (0, .ref a0), (1, .ref a1), (2, .int x2)]) C.x C.b dX9_ahead_15 rfl hl (by decide) rfl (fun ls hl => ?_)
    refine lv_iconst (v := 0) C.x C.b dX9_ahead_16 (by decide) ?_
    refine lv_istore (lv' := [(4, .int 0), (3, .int 1), (0, .ref a0), (1, .ref a1), (2, .int x2)]) C.x C.b dX9_ahead_17 hl (by decide) rfl (fun ls hl => ?_)
    refine lv_iconst (v := 1) C.x C.b dX9_ahead_19 (by decide) ?_
    refine lv_istore (lv' := [(5, .int 1), (4, .int 0), (3, .int 1), (0, .ref a0), (1, .ref a1), (2, .int x2)]) C.x C.b dX9_ahead_20 hl (by decide) rfl (fun ls hl => ?_)
    refine lv_iload_n C.x C.b dX9_ahead_22 rfl (lv_at hl 5 rfl) ?_
    refine lv_istore (lv' := [(6, .int x2), (5, .int 1), (4, .int 0), (3, .int 1), (0, .ref a0), (1, .ref a1), (2, .int x2)]) C.x C.b dX9_ahead_23 hl (by decide) rfl (fun ls hl => ?_)
    exact h H locs ls hR hS (lv_sub hl [4, 5, 6, 3, 2, 1, 0] rfl)
set_option maxHeartbeats 4000000 in
theorem bX9_behind_25 {X : zX} {d : Nat} {E : zM} {K : Option Value → zG → Prop} {KX : String → zG → Prop} (C : zC X (d + 1) E RX9 cX9_behind 7 (some .int) "behind") (hQ : zQ X E K KX) (g : zG) (a0 : Nat) (a1 : Nat) (x2 : Int32) (x3 : Int32) (x4 : Int32) (x5 : Int32) (x6 : Int32) (h : (x6 < 0 → K (some (.int x4)) g) ∧ (¬ x6 < 0 → ∃ (k_2 : Nat) (fs_1 : List Value) (v_3 : Int32), zkc k_2 = 7 ∧ zGo g k_2 a1 = some fs_1 ∧ fs_1[2]? = some (.int v_3) ∧ zIs g 9 a0 ∧ zCal X d yX9_isNear wX9_isNear [.ref a0, .int x6, .int x2, .int v_3] g (fun r g_4 => ∃ v_5 : Int32, r = some (.int v_5) ∧ zbo v_5 ∧ (v_5 = 0 → K (some (.int x4)) g_4) ∧ (¬ v_5 = 0 → (x3 = 0 → ∃ (k_7 : Nat) (fs_6 : List Value) (r_8 : Option Nat), zkc k_7 = 7 ∧ zGo g_4 k_7 a1 = some fs_6 ∧ fs_6[4]? = some (va_rf r_8) ∧ zIs g_4 9 a0 ∧ zCal X d yX9_at wX9_at [.ref a0, va_rf r_8, .int x6] g_4 (fun r g_9 => ∃ v_10 : Int32, r = some (.int v_10) ∧ zCal X d yX1_and wX1_and [.int x5, .int v_10] g_9 (fun r g_11 => ∃ v_12 : Int32, r = some (.int v_12) ∧ zCal X d yX1_or wX1_or [.int x4, .int v_12] g_11 (fun r g_13 => ∃ v_14 : Int32, r = some (.int v_14) ∧ (x3 = 0 → ∃ (k_16 : Nat) (fs_15 : List Value) (r_17 : Option Nat), zkc k_16 = 7 ∧ zGo g_13 k_16 a1 = some fs_15 ∧ fs_15[3]? = some (va_rf r_17) ∧ zIs g_13 9 a0 ∧ zCal X d yX9_at wX9_at [.ref a0, va_rf r_17, .int x6] g_13 (fun r g_18 => ∃ v_19 : Int32, r = some (.int v_19) ∧ zCal X d yX1_and wX1_and [.int x5, .int v_19] g_18 (fun r g_20 => ∃ v_21 : Int32, r = some (.int v_21) ∧ GW X E 7 g_20 25 [(0, .ref a0), (1, .ref a1), (2, .int x2), (3, .int x3), (4, .int v_14), (5, .int v_21), (6, .int (x6 + (-1)))] []) KX) KX) ∧ (¬ x3 = 0 → GW X E 7 g_13 25 [(0, .ref a0), (1, .ref a1), (2, .int x2), (3, .int x3), (4, .int v_14), (5, .int 1), (6, .int (x6 + (-1)))] [])) KX) KX) KX) ∧ (¬ x3 = 0 → ∃ (k_23 : Nat) (fs_22 : List Value) (r_24 : Option Nat), zkc k_23 = 7 ∧ zGo g_4 k_23 a1 = some fs_22 ∧ fs_22[3]? = some (va_rf r_24) ∧ zIs g_4 9 a0 ∧ zCal X d yX9_at wX9_at [.ref a0, va_rf r_24, .int x6] g_4 (fun r g_25 => ∃ v_26 : Int32, r = some (.int v_26) ∧ zCal X d yX1_and wX1_and [.int x5, .int v_26] g_25 (fun r g_27 => ∃ v_28 : Int32, r = some (.int v_28) ∧ zCal X d yX1_or wX1_or [.int x4, .int v_28] g_27 (fun r g_29 => ∃ v_30 : Int32, r = some (.int v_30) ∧ (x3 = 0 → ∃ (k_32 : Nat) (fs_31 : List Value) (r_33 : Option Nat), zkc k_32 = 7 ∧ zGo g_29 k_32 a1 = some fs_31 ∧ fs_31[3]? = some (va_rf r_33) ∧ zIs g_29 9 a0 ∧ zCal X d yX9_at wX9_at [.ref a0, va_rf r_33, .int x6] g_29 (fun r g_34 => ∃ v_35 : Int32, r = some (.int v_35) ∧ zCal X d yX1_and wX1_and [.int x5, .int v_35] g_34 (fun r g_36 => ∃ v_37 : Int32, r = some (.int v_37) ∧ GW X E 7 g_36 25 [(0, .ref a0), (1, .ref a1), (2, .int x2), (3, .int x3), (4, .int v_30), (5, .int v_37), (6, .int (x6 + (-1)))] []) KX) KX) ∧ (¬ x3 = 0 → GW X E 7 g_29 25 [(0, .ref a0), (1, .ref a1), (2, .int x2), (3, .int x3), (4, .int v_30), (5, .int 1), (6, .int (x6 + (-1)))] [])) KX) KX) KX))) KX)) : GW X E 7 g 25 [(0, .ref a0), (1, .ref a1), (2, .int x2), (3, .int x3), (4, .int x4), (5, .int x5), (6, .int x6)] [] := by
  intro H locs ls hR hS hl
  refine lv_iload C.x C.b dX9_behind_25 (lv_at hl 6 rfl) ?_
  obtain ⟨h1, h2⟩ := h
  refine lv_if_lt (tgt := 108) C.x C.b dX9_behind_27 (by decide) (fun c => ?_) (fun c => ?_)
  · have h := h1 c; clear h1 h2
    refine lv_iload C.x C.b dX9_behind_108 (lv_at hl 4 rfl) ?_
    exact z_iret C hQ dX9_behind_110 h H locs ls hR hS hl
  · have h := h2 c; clear h1 h2
    refine lv_aload_n C.x C.b dX9_behind_30 rfl (lv_at hl 0 rfl) ?_
    refine lv_iload C.x C.b dX9_behind_31 (lv_at hl 6 rfl) ?_
    refine lv_iload_n C.x C.b dX9_behind_33 rfl (lv_at hl 2 rfl) ?_
    refine lv_aload_n C.x C.b dX9_behind_34 rfl (lv_at hl 1 rfl) ?_
    obtain ⟨k_2, fs_1, v_3, q0, q1, q2, h⟩ := h
    refine z_getN C hR q1 q0 (ci := 7) rfl in_X7 2 (by decide) q1253 (fun _ h => h) q2 dX9_behind_35 ?_
    refine z_callV C hR hS hl (n := 3) (C1 := RX9) (T := TX9) (N := 4) (ci := 9) (y := yX9_isNear) (bytes := cX9_isNear) (maxL := 4) (rt := (some .boolean)) (As := [.int x6, .int x2, .int v_3]) (rest := []) h.1 rfl (lw_V q507 q509 qs7 q108 q510) hdV_X9_isNear (by decide) rfl rfl (Nat.le_of_ble_eq_true rfl) dX9_behind_38 h.2 (fun r g_4 hk_ => ?_) (fun x g1 h => z_out C hQ h)
    clear h; obtain ⟨v_5, rfl, zb_, h⟩ := hk_
    show GW X E 7 g_4 41 [(0, .ref a0), (1, .ref a1), (2, .int x2), (3, .int x3), (4, .int x4), (5, .int x5), (6, .int x6)] [.int v_5]
    intro H locs ls hR hS hl
    obtain ⟨h1, h2⟩ := h
    refine lv_if_eq (tgt := 108) C.x C.b dX9_behind_41 (by decide) (fun c => ?_) (fun c => ?_)
    · have h := h1 c; clear h1 h2
      refine lv_iload C.x C.b dX9_behind_108 (lv_at hl 4 rfl) ?_
      exact z_iret C hQ dX9_behind_110 h H locs ls hR hS hl
    · have h := h2 c; clear h1 h2
      refine lv_iload C.x C.b dX9_behind_44 (lv_at hl 4 rfl) ?_
      refine lv_iload C.x C.b dX9_behind_46 (lv_at hl 5 rfl) ?_
      refine lv_aload_n C.x C.b dX9_behind_48 rfl (lv_at hl 0 rfl) ?_
      refine lv_iload_n C.x C.b dX9_behind_49 rfl (lv_at hl 3 rfl) ?_
      obtain ⟨h1, h2⟩ := h
      refine lv_if_eq (tgt := 60) C.x C.b dX9_behind_50 (by decide) (fun c => ?_) (fun c => ?_)
      · have h := h1 c; clear h1 h2
        refine lv_aload_n C.x C.b dX9_behind_60 rfl (lv_at hl 1 rfl) ?_
        obtain ⟨k_7, fs_6, r_8, q0, q1, q2, h⟩ := h
        refine z_getN C hR q1 q0 (ci := 7) rfl in_X7 4 (by decide) q1257 (fun _ h => h) q2 dX9_behind_61 ?_
        refine lv_iload C.x C.b dX9_behind_64 (lv_at hl 6 rfl) ?_
        refine z_callV C hR hS hl (n := 2) (C1 := RX9) (T := TX9) (N := 4) (ci := 9) (y := yX9_at) (bytes := cX9_at) (maxL := 3) (rt := (some .int)) (As := [va_rf r_8, .int x6]) (rest := [.int x5, .int x4]) h.1 rfl (lw_V q488 q489 q490 q108 q491) hdV_X9_at (by decide) rfl rfl (Nat.le_of_ble_eq_true rfl) dX9_behind_66 h.2 (fun r g_9 hk_ => ?_) (fun x g1 h => z_out C hQ h)
        clear h; obtain ⟨v_10, rfl, h⟩ := hk_
        show GW X E 7 g_9 69 [(0, .ref a0), (1, .ref a1), (2, .int x2), (3, .int x3), (4, .int x4), (5, .int x5), (6, .int x6)] [.int v_10, .int x5, .int x4]
        intro H locs ls hR hS hl
        refine z_callSN C hR hS hl (n := 2) (y := yX1_and) (bytes := cX1_and) (maxL := 2) (rt := (some .int)) (As := [.int x5, .int v_10]) (rest := [.int x4]) (lw_meth q497) (C.nestM q495) (C.ts _ q73) (C.ts _ q496) hdS_X1_and (by decide) rfl rfl (Nat.le_of_ble_eq_true rfl) dX9_behind_69 h (fun r g_11 hk_ => ?_) (fun x g1 h => z_out C hQ h)
        clear h; obtain ⟨v_12, rfl, h⟩ := hk_
        show GW X E 7 g_11 72 [(0, .ref a0), (1, .ref a1), (2, .int x2), (3, .int x3), (4, .int x4), (5, .int x5), (6, .int x6)] [.int v_12, .int x4]
        intro H locs ls hR hS hl
        refine z_callSN C hR hS hl (n := 2) (y := yX1_or) (bytes := cX1_or) (maxL := 2) (rt := (some .int)) (As := [.int x4, .int v_12]) (rest := []) (lw_meth q500) (C.nestM q498) (C.ts _ q73) (C.ts _ q499) hdS_X1_or (by decide) rfl rfl (Nat.le_of_ble_eq_true rfl) dX9_behind_72 h (fun r g_13 hk_ => ?_) (fun x g1 h => z_out C hQ h)
        clear h; obtain ⟨v_14, rfl, h⟩ := hk_
        show GW X E 7 g_13 75 [(0, .ref a0), (1, .ref a1), (2, .int x2), (3, .int x3), (4, .int x4), (5, .int x5), (6, .int x6)] [.int v_14]
        intro H locs ls hR hS hl
        refine lv_istore (lv' := [(4, .int v_14), (0, .ref a0), (1, .ref a1), (2, .int x2), (3, .int x3), (5, .int x5), (6, .int x6)]) C.x C.b dX9_behind_75 hl (by decide) rfl (fun ls hl => ?_)
        refine lv_iload_n C.x C.b dX9_behind_77 rfl (lv_at hl 4 rfl) ?_
        obtain ⟨h1, h2⟩ := h
        refine lv_if_eq (tgt := 85) C.x C.b dX9_behind_78 (by decide) (fun c => ?_) (fun c => ?_)
        · have h := h1 c; clear h1 h2
          refine lv_iload C.x C.b dX9_behind_85 (lv_at hl 5 rfl) ?_
          refine lv_aload_n C.x C.b dX9_behind_87 rfl (lv_at hl 1 rfl) ?_
          refine lv_aload_n C.x C.b dX9_behind_88 rfl (lv_at hl 2 rfl) ?_
          obtain ⟨k_16, fs_15, r_17, q0, q1, q2, h⟩ := h
          refine z_getN C hR q1 q0 (ci := 7) rfl in_X7 3 (by decide) q1255 (fun _ h => h) q2 dX9_behind_89 ?_
          refine lv_iload C.x C.b dX9_behind_92 (lv_at hl 6 rfl) ?_
          refine z_callV C hR hS hl (n := 2) (C1 := RX9) (T := TX9) (N := 4) (ci := 9) (y := yX9_at) (bytes := cX9_at) (maxL := 3) (rt := (some .int)) (As := [va_rf r_17, .int x6]) (rest := [.int x5]) h.1 rfl (lw_V q488 q489 q490 q108 q491) hdV_X9_at (by decide) rfl rfl (Nat.le_of_ble_eq_true rfl) dX9_behind_94 h.2 (fun r g_18 hk_ => ?_) (fun x g1 h => z_out C hQ h)
          clear h; obtain ⟨v_19, rfl, h⟩ := hk_
          show GW X E 7 g_18 97 [(4, .int v_14), (0, .ref a0), (1, .ref a1), (2, .int x2), (3, .int x3), (5, .int x5), (6, .int x6)] [.int v_19, .int x5]
          intro H locs ls hR hS hl
          refine z_callSN C hR hS hl (n := 2) (y := yX1_and) (bytes := cX1_and) (maxL := 2) (rt := (some .int)) (As := [.int x5, .int v_19]) (rest := []) (lw_meth q497) (C.nestM q495) (C.ts _ q73) (C.ts _ q496) hdS_X1_and (by decide) rfl rfl (Nat.le_of_ble_eq_true rfl) dX9_behind_97 h (fun r g_20 hk_ => ?_) (fun x g1 h => z_out C hQ h)
          clear h; obtain ⟨v_21, rfl, h⟩ := hk_
          show GW X E 7 g_20 100 [(4, .int v_14), (0, .ref a0), (1, .ref a1), (2, .int x2), (3, .int x3), (5, .int x5), (6, .int x6)] [.int v_21]
          intro H locs ls hR hS hl
          refine lv_istore (lv' := [(5, .int v_21), (4, .int v_14), (0, .ref a0), (1, .ref a1), (2, .int x2), (3, .int x3), (6, .int x6)]) C.x C.b dX9_behind_100 hl (by decide) rfl (fun ls hl => ?_)
          refine lv_iinc (v := x6 + (-1)) (lv' := [(6, .int (x6 + (-1))), (5, .int v_21), (4, .int v_14), (0, .ref a0), (1, .ref a1), (2, .int x2), (3, .int x3)]) C.x C.b dX9_behind_102 hl (k := 6) rfl rfl (by decide) rfl (fun ls hl => ?_)
          refine lv_goto (tgt := 25) C.x C.b dX9_behind_105 (by decide) ?_
          exact h H locs ls hR hS (lv_sub hl [3, 4, 5, 6, 2, 1, 0] rfl)
        · have h := h2 c; clear h1 h2
          refine lv_iconst (v := 1) C.x C.b dX9_behind_81 (by decide) ?_
          refine lv_goto (tgt := 100) C.x C.b dX9_behind_82 (by decide) ?_
          refine lv_istore (lv' := [(5, .int 1), (4, .int v_14), (0, .ref a0), (1, .ref a1), (2, .int x2), (3, .int x3), (6, .int x6)]) C.x C.b dX9_behind_100 hl (by decide) rfl (fun ls hl => ?_)
          refine lv_iinc (v := x6 + (-1)) (lv' := [(6, .int (x6 + (-1))), (5, .int 1), (4, .int v_14), (0, .ref a0), (1, .ref a1), (2, .int x2), (3, .int x3)]) C.x C.b dX9_behind_102 hl (k := 6) rfl rfl (by decide) rfl (fun ls hl => ?_)
          refine lv_goto (tgt := 25) C.x C.b dX9_behind_105 (by decide) ?_
          exact h H locs ls hR hS (lv_sub hl [3, 4, 5, 6, 2, 1, 0] rfl)
      · have h := h2 c; clear h1 h2
        refine lv_aload_n C.x C.b dX9_behind_53 rfl (lv_at hl 1 rfl) ?_
        obtain ⟨k_23, fs_22, r_24, q0, q1, q2, h⟩ := h
        refine z_getN C hR q1 q0 (ci := 7) rfl in_X7 3 (by decide) q1255 (fun _ h => h) q2 dX9_behind_54 ?_
        refine lv_goto (tgt := 64) C.x C.b dX9_behind_57 (by decide) ?_
        refine lv_iload C.x C.b dX9_behind_64 (lv_at hl 6 rfl) ?_
        refine z_callV C hR hS hl (n := 2) (C1 := RX9) (T := TX9) (N := 4) (ci := 9) (y := yX9_at) (bytes := cX9_at) (maxL := 3) (rt := (some .int)) (As := [va_rf r_24, .int x6]) (rest := [.int x5, .int x4]) h.1 rfl (lw_V q488 q489 q490 q108 q491) hdV_X9_at (by decide) rfl rfl (Nat.le_of_ble_eq_true rfl) dX9_behind_66 h.2 (fun r g_25 hk_ => ?_) (fun x g1 h => z_out C hQ h)
        clear h; obtain ⟨v_26, rfl, h⟩ := hk_
        show GW X E 7 g_25 69 [(0, .ref a0), (1, .ref a1), (2, .int x2), (3, .int x3), (4, .int x4), (5, .int x5), (6, .int x6)] [.int v_26, .int x5, .int x4]
        intro H locs ls hR hS hl
        refine z_callSN C hR hS hl (n := 2) (y := yX1_and) (bytes := cX1_and) (maxL := 2) (rt := (some .int)) (As := [.int x5, .int v_26]) (rest := [.int x4]) (lw_meth q497) (C.nestM q495) (C.ts _ q73) (C.ts _ q496) hdS_X1_and (by decide) rfl rfl (Nat.le_of_ble_eq_true rfl) dX9_behind_69 h (fun r g_27 hk_ => ?_) (fun x g1 h => z_out C hQ h)
        clear h; obtain ⟨v_28, rfl, h⟩ := hk_
        show GW X E 7 g_27 72 [(0, .ref a0), (1, .ref a1), (2, .int x2), (3, .int x3), (4, .int x4), (5, .int x5), (6, .int x6)] [.int v_28, .int x4]
        intro H locs ls hR hS hl
        refine z_callSN C hR hS hl (n := 2) (y := yX1_or) (bytes := cX1_or) (maxL := 2) (rt := (some .int)) (As := [.int x4, .int v_28]) (rest := []) (lw_meth q500) (C.nestM q498) (C.ts _ q73) (C.ts _ q499) hdS_X1_or (by decide) rfl rfl (Nat.le_of_ble_eq_true rfl) dX9_behind_72 h (fun r g_29 hk_ => ?_) (fun x g1 h => z_out C hQ h)
        clear h; obtain ⟨v_30, rfl, h⟩ := hk_
        show GW X E 7 g_29 75 [(0, .ref a0), (1, .ref a1), (2, .int x2), (3, .int x3), (4, .int x4), (5, .int x5), (6, .int x6)] [.int v_30]
        intro H locs ls hR hS hl
        refine lv_istore (lv' := [(4, .int v_30), (0, .ref a0), (1, .ref a1), (2, .int x2), (3, .int x3), (5, .int x5), (6, .int x6)]) C.x C.b dX9_behind_75 hl (by decide) rfl (fun ls hl => ?_)
        refine lv_iload_n C.x C.b dX9_behind_77 rfl (lv_at hl 4 rfl) ?_
        obtain ⟨h1, h2⟩ := h
        refine lv_if_eq (tgt := 85) C.x C.b dX9_behind_78 (by decide) (fun c => ?_) (fun c => ?_)
        · have h := h1 c; clear h1 h2
          refine lv_iload C.x C.b dX9_behind_85 (lv_at hl 5 rfl) ?_
          refine lv_aload_n C.x C.b dX9_behind_87 rfl (lv_at hl 1 rfl) ?_
          refine lv_aload_n C.x C.b dX9_behind_88 rfl (lv_at hl 2 rfl) ?_
          obtain ⟨k_32, fs_31, r_33, q0, q1, q2, h⟩ := h
          refine z_getN C hR q1 q0 (ci := 7) rfl in_X7 3 (by decide) q1255 (fun _ h => h) q2 dX9_behind_89 ?_
          refine lv_iload C.x C.b dX9_behind_92 (lv_at hl 6 rfl) ?_
          refine z_callV C hR hS hl (n := 2) (C1 := RX9) (T := TX9) (N := 4) (ci := 9) (y := yX9_at) (bytes := cX9_at) (maxL := 3) (rt := (some .int)) (As := [va_rf r_33, .int x6]) (rest := [.int x5]) h.1 rfl (lw_V q488 q489 q490 q108 q491) hdV_X9_at (by decide) rfl rfl (Nat.le_of_ble_eq_true rfl) dX9_behind_94 h.2 (fun r g_34 hk_ => ?_) (fun x g1 h => z_out C hQ h)
          clear h; obtain ⟨v_35, rfl, h⟩ := hk_
          show GW X E 7 g_34 97 [(4, .int v_30), (0, .ref a0), (1, .ref a1), (2, .int x2), (3, .int x3), (5, .int x5), (6, .int x6)] [.int v_35, .int x5]
          intro H locs ls hR hS hl
          refine z_callSN C hR hS hl (n := 2) (y := yX1_and) (bytes := cX1_and) (maxL := 2) (rt := (some .int)) (As := [.int x5, .int v_35]) (rest := []) (lw_meth q497) (C.nestM q495) (C.ts _ q73) (C.ts _ q496) hdS_X1_and (by decide) rfl rfl (Nat.le_of_ble_eq_true rfl) dX9_behind_97 h (fun r g_36 hk_ => ?_) (fun x g1 h => z_out C hQ h)
          clear h; obtain ⟨v_37, rfl, h⟩ := hk_
          show GW X E 7 g_36 100 [(4, .int v_30), (0, .ref a0), (1, .ref a1), (2, .int x2), (3, .int x3), (5, .int x5), (6, .int x6)] [.int v_37]
          intro H locs ls hR hS hl
          refine lv_istore (lv' := [(5, .int v_37), (4, .int v_30), (0, .ref a0), (1, .ref a1), (2, .int x2), (3, .int x3), (6, .int x6)]) C.x C.b dX9_behind_100 hl (by decide) rfl (fun ls hl => ?_)
          refine lv_iinc (v := x6 + (-1)) (lv' := [(6, .int (x6 + (-1))), (5, .int v_37), (4, .int v_30), (0, .ref a0), (1, .ref a1), (2, .int x2), (3, .int x3)]) C.x C.b dX9_behind_102 hl (k := 6) rfl rfl (by decide) rfl (fun ls hl => ?_)
          refine lv_goto (tgt := 25) C.x C.b dX9_behind_105 (by decide) ?_
          exact h H locs ls hR hS (lv_sub hl [3, 4, 5, 6, 2, 1, 0] rfl)
        · have h := h2 c; clear h1 h2
          refine lv_iconst (v := 1) C.x C.b dX9_behind_81 (by decide) ?_
          refine lv_goto (tgt := 100) C.x C.b dX9_behind_82 (by decide) ?_
          refine lv_istore (lv' := [(5, .int 1), (4, .int v_30), (0, .ref a0), (1, .ref a1), (2, .int x2), (3, .int x3), (6, .int x6)]) C.x C.b dX9_behind_100 hl (by decide) rfl (fun ls hl => ?_)
          refine lv_iinc (v := x6 + (-1)) (lv' := [(6, .int (x6 + (-1))), (5, .int 1), (4, .int v_30), (0, .ref a0), (1, .ref a1), (2, .int x2), (3, .int x3)]) C.x C.b dX9_behind_102 hl (k := 6) rfl rfl (by decide) rfl (fun ls hl => ?_)
          refine lv_goto (tgt := 25) C.x C.b dX9_behind_105 (by decide) ?_
          exact h H locs ls hR hS (lv_sub hl [3, 4, 5, 6, 2, 1, 0] rfl)
set_option maxHeartbeats 4000000 in
theorem mX9_behind {X : zX} {d : Nat} {g : zG} {K : Option Value → zG → Prop} {KX : String → zG → Prop} (hok : zOk X) (a0 : Nat) (a1 : Nat) (x2 : Int32) (h : ∀ E : zM, zC X (d + 1) E RX9 cX9_behind 7 (some .int) "behind" → zQ X E K KX → ∃ (k_2 : Nat) (fs_1 : List Value) (a_3 : Nat), zkc k_2 = 7 ∧ zGo g k_2 a1 = some fs_1 ∧ fs_1[0]? = some (.ref a_3) ∧ (¬ a_3 = (zE X 7) → GW X E 7 g 25 [(0, .ref a0), (1, .ref a1), (2, .int x2), (3, .int 0), (4, .int 0), (5, .int 1), (6, .int x2)] []) ∧ (a_3 = (zE X 7) → GW X E 7 g 25 [(0, .ref a0), (1, .ref a1), (2, .int x2), (3, .int 1), (4, .int 0), (5, .int 1), (6, .int x2)] [])) : zCal X (d + 1) yX9_behind wX9_behind [.ref a0, .ref a1, .int x2] g K KX := by
  refine z_enter hok pn_X9 (Nat.le_of_ble_eq_true rfl) (fun E C hQ => ?_)
  have C : zC X (d + 1) E RX9 cX9_behind 7 (some .int) "behind" := C
  have h := h E C hQ
  show GW X E 7 g 0 [(0, .ref a0), (1, .ref a1), (2, .int x2)] []
  intro H locs ls hR hS hl
  refine lv_aload_n C.x C.b dX9_behind_0 rfl (lv_at hl 1 rfl) ?_
  obtain ⟨k_2, fs_1, a_3, q0, q1, q2, h⟩ := h
  refine z_getN C hR q1 q0 (ci := 7) rfl in_X7 0 (by decide) q1249 (fun _ h => h) q2 dX9_behind_1 ?_
  refine z_getsE C hS 7 (by decide) q505 dX9_behind_4 ?_
  obtain ⟨h1, h2⟩ := h
  refine lv_acmp_ne (rx := (some a_3)) (ry := (some (zE X 7))) (tgt := 14) C.x C.b dX9_behind_7 (by decide) (fun c => ?_) (fun c => ?_)
  · have h := h1 (fun z => c (congrArg some z)); clear h1 h2
    refine lv_iconst (v := 0) C.x C.b dX9_behind_14 (by decide) ?_
    refine lv_istore_n (lv' := [(3, .int 0), (0, .ref a0), (1, .ref a1), (2, .int x2)]) C.x C.b dX9_behind_15 rfl hl (by decide) rfl (fun ls hl => ?_)
    refine lv_iconst (v := 0) C.x C.b dX9_behind_16 (by decide) ?_
    refine lv_istore (lv' := [(4, .int 0), (3, .int 0), (0, .ref a0), (1, .ref a1), (2, .int x2)]) C.x C.b dX9_behind_17 hl (by decide) rfl (fun ls hl => ?_)
    refine lv_iconst (v := 1) C.x C.b dX9_behind_19 (by decide) ?_
    refine lv_istore (lv' := [(5, .int 1), (4, .int 0), (3, .int 0), (0, .ref a0), (1, .ref a1), (2, .int x2)]) C.x C.b dX9_behind_20 hl (by decide) rfl (fun ls hl => ?_)
    refine lv_iload_n C.x C.b dX9_behind_22 rfl (lv_at hl 5 rfl) ?_
    refine lv_istore (lv' := [(6, .int x2), (5, .int 1), (4, .int 0), (3, .int 0), (0, .ref a0), (1, .ref a1), (2, .int x2)]) C.x C.b dX9_behind_23 hl (by decide) rfl (fun ls hl => ?_)
    exact h H locs ls hR hS (lv_sub hl [4, 5, 6, 3, 2, 1, 0] rfl)
  · have h := h2 (Option.some.inj c); clear h1 h2
    refine lv_iconst (v := 1) C.x C.b dX9_behind_10 (by decide) ?_
    refine lv_goto (tgt := 15) C.x C.b dX9_behind_11 (by decide) ?_
    refine lv_istore_n (lv' := [(3, .int 1), (0, .ref a0), (1, .ref a1), (2, .int x2)]) C.x C.b dX9_behind_15 rfl hl (by decide) rfl (fun ls hl => ?_)
    refine lv_iconst (v := 0) C.x C.b dX9_behind_16 (by decide) ?_
    refine lv_istore (lv' := [(4, .int 0), (3, .int 1), (0, .ref a0), (1, .ref a1), (2, .int x2)]) C.x C.b dX9_behind_17 hl (by decide) rfl (fun ls hl => ?_)
    refine lv_iconst (v := 1) C.x C.b dX9_behind_19 (by decide) ?_
    refine lv_istore (lv' := [(5, .int 1), (4, .int 0), (3, .int 1), (0, .ref a0), (1, .ref a1), (2, .int x2)]) C.x C.b dX9_behind_20 hl (by decide) rfl (fun ls hl => ?_)
    refine lv_iload_n C.x C.b dX9_behind_22 rfl (lv_at hl 5 rfl) ?_
    refine lv_istore (lv' := [(6, .int x2), (5, .int 1), (4, .int 0), (3, .int 1), (0, .ref a0), (1, .ref a1), (2, .int x2)]) C.x C.b dX9_behind_23 hl (by decide) rfl (fun ls hl => ?_)
    exact h H locs ls hR hS (lv_sub hl [4, 5, 6, 3, 2, 1, 0] rfl)
set_option maxHeartbeats 4000000 in
theorem bX9_counted_8 {X : zX} {d : Nat} {E : zM} {K : Option Value → zG → Prop} {KX : String → zG → Prop} (C : zC X (d + 1) E RX9 cX9_counted 7 (some .int) "counted") (hQ : zQ X E K KX) (g : zG) (a0 : Nat) (a1 : Nat) (x2 : Int32) (x3 : Int32) (x4 : Int32) (x5 : Int32) (h : (x5 < 0 → ∃ (k_2 : Nat) (fs_1 : List Value) (v_3 : Int32), zkc k_2 = 7 ∧ zGo g k_2 a1 = some fs_1 ∧ fs_1[1]? = some (.int v_3) ∧ (x3 < v_3 → ∃ (k_5 : Nat) (fs_4 : List Value) (v_6 : Int32), zkc k_5 = 7 ∧ zGo g k_5 a1 = some fs_4 ∧ fs_4[1]? = some (.int v_6) ∧ (v_6 ≤ (x3 + x4) → K (some (.int 2)) g) ∧ (¬ v_6 ≤ (x3 + x4) → K (some (.int 0)) g)) ∧ (¬ x3 < v_3 → K (some (.int 1)) g)) ∧ (¬ x5 < 0 → ∃ (k_8 : Nat) (fs_7 : List Value) (v_9 : Int32), zkc k_8 = 7 ∧ zGo g k_8 a1 = some fs_7 ∧ fs_7[2]? = some (.int v_9) ∧ zIs g 9 a0 ∧ zCal X d yX9_isNear wX9_isNear [.ref a0, .int x5, .int x2, .int v_9] g (fun r g_10 => ∃ v_11 : Int32, r = some (.int v_11) ∧ zbo v_11 ∧ (v_11 = 0 → ∃ (k_13 : Nat) (fs_12 : List Value) (v_14 : Int32), zkc k_13 = 7 ∧ zGo g_10 k_13 a1 = some fs_12 ∧ fs_12[1]? = some (.int v_14) ∧ (x3 < v_14 → ∃ (k_16 : Nat) (fs_15 : List Value) (v_17 : Int32), zkc k_16 = 7 ∧ zGo g_10 k_16 a1 = some fs_15 ∧ fs_15[1]? = some (.int v_17) ∧ (v_17 ≤ (x3 + x4) → K (some (.int 2)) g_10) ∧ (¬ v_17 ≤ (x3 + x4) → K (some (.int 0)) g_10)) ∧ (¬ x3 < v_14 → K (some (.int 1)) g_10)) ∧ (¬ v_11 = 0 → ∃ (k_19 : Nat) (fs_18 : List Value) (r_20 : Option Nat), zkc k_19 = 7 ∧ zGo g_10 k_19 a1 = some fs_18 ∧ fs_18[3]? = some (va_rf r_20) ∧ zIs g_10 9 a0 ∧ zCal X d yX9_at wX9_at [.ref a0, va_rf r_20, .int x5] g_10 (fun r g_21 => ∃ v_22 : Int32, r = some (.int v_22) ∧ (¬ v_22 = 1 → (¬ v_22 = 2 → GW X E 7 g_21 8 [(0, .ref a0), (1, .ref a1), (2, .int x2), (3, .int (x3 + 0)), (4, .int (x4 + 0)), (5, .int (x5 + (-1)))] []) ∧ (v_22 = 2 → GW X E 7 g_21 8 [(0, .ref a0), (1, .ref a1), (2, .int x2), (3, .int (x3 + 0)), (4, .int (x4 + 1)), (5, .int (x5 + (-1)))] [])) ∧ (v_22 = 1 → (¬ v_22 = 2 → GW X E 7 g_21 8 [(0, .ref a0), (1, .ref a1), (2, .int x2), (3, .int (x3 + 1)), (4, .int (x4 + 0)), (5, .int (x5 + (-1)))] []) ∧ (v_22 = 2 → GW X E 7 g_21 8 [(0, .ref a0), (1, .ref a1), (2, .int x2), (3, .int (x3 + 1)), (4, .int (x4 + 1)), (5, .int (x5 + (-1)))] []))) KX)) KX)) : GW X E 7 g 8 [(0, .ref a0), (1, .ref a1), (2, .int x2), (3, .int x3), (4, .int x4), (5, .int x5)] [] := by
  intro H locs ls hR hS hl
  refine lv_iload C.x C.b dX9_counted_8 (lv_at hl 5 rfl) ?_
  obtain ⟨h1, h2⟩ := h
  refine lv_if_lt (tgt := 75) C.x C.b dX9_counted_10 (by decide) (fun c => ?_) (fun c => ?_)
  · have h := h1 c; clear h1 h2
    refine lv_iload_n C.x C.b dX9_counted_75 rfl (lv_at hl 3 rfl) ?_
    refine lv_aload_n C.x C.b dX9_counted_76 rfl (lv_at hl 1 rfl) ?_
    obtain ⟨k_2, fs_1, v_3, q0, q1, q2, h⟩ := h
    refine z_getN C hR q1 q0 (ci := 7) rfl in_X7 1 (by decide) q1251 (fun _ h => h) q2 dX9_counted_77 ?_
    obtain ⟨h1, h2⟩ := h
    refine lv_icmp_lt (tgt := 87) C.x C.b dX9_counted_80 (by decide) (fun c => ?_) (fun c => ?_)
    · have h := h1 c; clear h1 h2
      refine lv_iload_n C.x C.b dX9_counted_87 rfl (lv_at hl 3 rfl) ?_
      refine lv_iload C.x C.b dX9_counted_88 (lv_at hl 4 rfl) ?_
      refine lv_iadd C.x C.b dX9_counted_90 ?_
      refine lv_aload_n C.x C.b dX9_counted_91 rfl (lv_at hl 1 rfl) ?_
      obtain ⟨k_5, fs_4, v_6, q0, q1, q2, h⟩ := h
      refine z_getN C hR q1 q0 (ci := 7) rfl in_X7 1 (by decide) q1251 (fun _ h => h) q2 dX9_counted_92 ?_
      obtain ⟨h1, h2⟩ := h
      refine lv_icmp_ge (tgt := 102) C.x C.b dX9_counted_95 (by decide) (fun c => ?_) (fun c => ?_)
      · have h := h1 c; clear h1 h2
        refine lv_iconst (v := 2) C.x C.b dX9_counted_102 (by decide) ?_
        exact z_iret C hQ dX9_counted_103 h H locs ls hR hS hl
      · have h := h2 c; clear h1 h2
        refine lv_iconst (v := 0) C.x C.b dX9_counted_98 (by decide) ?_
        refine lv_goto (tgt := 103) C.x C.b dX9_counted_99 (by decide) ?_
        exact z_iret C hQ dX9_counted_103 h H locs ls hR hS hl
    · have h := h2 c; clear h1 h2
      refine lv_iconst (v := 1) C.x C.b dX9_counted_83 (by decide) ?_
      refine lv_goto (tgt := 103) C.x C.b dX9_counted_84 (by decide) ?_
      exact z_iret C hQ dX9_counted_103 h H locs ls hR hS hl
  · have h := h2 c; clear h1 h2
    refine lv_aload_n C.x C.b dX9_counted_13 rfl (lv_at hl 0 rfl) ?_
    refine lv_iload C.x C.b dX9_counted_14 (lv_at hl 5 rfl) ?_
    refine lv_iload_n C.x C.b dX9_counted_16 rfl (lv_at hl 2 rfl) ?_
    refine lv_aload_n C.x C.b dX9_counted_17 rfl (lv_at hl 1 rfl) ?_
    obtain ⟨k_8, fs_7, v_9, q0, q1, q2, h⟩ := h
    refine z_getN C hR q1 q0 (ci := 7) rfl in_X7 2 (by decide) q1253 (fun _ h => h) q2 dX9_counted_18 ?_
    refine z_callV C hR hS hl (n := 3) (C1 := RX9) (T := TX9) (N := 4) (ci := 9) (y := yX9_isNear) (bytes := cX9_isNear) (maxL := 4) (rt := (some .boolean)) (As := [.int x5, .int x2, .int v_9]) (rest := []) h.1 rfl (lw_V q507 q509 qs7 q108 q510) hdV_X9_isNear (by decide) rfl rfl (Nat.le_of_ble_eq_true rfl) dX9_counted_21 h.2 (fun r g_10 hk_ => ?_) (fun x g1 h => z_out C hQ h)
    clear h; obtain ⟨v_11, rfl, zb_, h⟩ := hk_
    show GW X E 7 g_10 24 [(0, .ref a0), (1, .ref a1), (2, .int x2), (3, .int x3), (4, .int x4), (5, .int x5)] [.int v_11]
    intro H locs ls hR hS hl
    obtain ⟨h1, h2⟩ := h
    refine lv_if_eq (tgt := 75) C.x C.b dX9_counted_24 (by decide) (fun c => ?_) (fun c => ?_)
    · have h := h1 c; clear h1 h2
      refine lv_iload_n C.x C.b dX9_counted_75 rfl (lv_at hl 3 rfl) ?_
      refine lv_aload_n C.x C.b dX9_counted_76 rfl (lv_at hl 1 rfl) ?_
      obtain ⟨k_13, fs_12, v_14, q0, q1, q2, h⟩ := h
      refine z_getN C hR q1 q0 (ci := 7) rfl in_X7 1 (by decide) q1251 (fun _ h => h) q2 dX9_counted_77 ?_
      obtain ⟨h1, h2⟩ := h
      refine lv_icmp_lt (tgt := 87) C.x C.b dX9_counted_80 (by decide) (fun c => ?_) (fun c => ?_)
      · have h := h1 c; clear h1 h2
        refine lv_iload_n C.x C.b dX9_counted_87 rfl (lv_at hl 3 rfl) ?_
        refine lv_iload C.x C.b dX9_counted_88 (lv_at hl 4 rfl) ?_
        refine lv_iadd C.x C.b dX9_counted_90 ?_
        refine lv_aload_n C.x C.b dX9_counted_91 rfl (lv_at hl 1 rfl) ?_
        obtain ⟨k_16, fs_15, v_17, q0, q1, q2, h⟩ := h
        refine z_getN C hR q1 q0 (ci := 7) rfl in_X7 1 (by decide) q1251 (fun _ h => h) q2 dX9_counted_92 ?_
        obtain ⟨h1, h2⟩ := h
        refine lv_icmp_ge (tgt := 102) C.x C.b dX9_counted_95 (by decide) (fun c => ?_) (fun c => ?_)
        · have h := h1 c; clear h1 h2
          refine lv_iconst (v := 2) C.x C.b dX9_counted_102 (by decide) ?_
          exact z_iret C hQ dX9_counted_103 h H locs ls hR hS hl
        · have h := h2 c; clear h1 h2
          refine lv_iconst (v := 0) C.x C.b dX9_counted_98 (by decide) ?_
          refine lv_goto (tgt := 103) C.x C.b dX9_counted_99 (by decide) ?_
          exact z_iret C hQ dX9_counted_103 h H locs ls hR hS hl
      · have h := h2 c; clear h1 h2
        refine lv_iconst (v := 1) C.x C.b dX9_counted_83 (by decide) ?_
        refine lv_goto (tgt := 103) C.x C.b dX9_counted_84 (by decide) ?_
        exact z_iret C hQ dX9_counted_103 h H locs ls hR hS hl
    · have h := h2 c; clear h1 h2
      refine lv_aload_n C.x C.b dX9_counted_27 rfl (lv_at hl 0 rfl) ?_
      refine lv_aload_n C.x C.b dX9_counted_28 rfl (lv_at hl 1 rfl) ?_
      obtain ⟨k_19, fs_18, r_20, q0, q1, q2, h⟩ := h
      refine z_getN C hR q1 q0 (ci := 7) rfl in_X7 3 (by decide) q1255 (fun _ h => h) q2 dX9_counted_29 ?_
      refine lv_iload C.x C.b dX9_counted_32 (lv_at hl 5 rfl) ?_
      refine z_callV C hR hS hl (n := 2) (C1 := RX9) (T := TX9) (N := 4) (ci := 9) (y := yX9_at) (bytes := cX9_at) (maxL := 3) (rt := (some .int)) (As := [va_rf r_20, .int x5]) (rest := []) h.1 rfl (lw_V q488 q489 q490 q108 q491) hdV_X9_at (by decide) rfl rfl (Nat.le_of_ble_eq_true rfl) dX9_counted_34 h.2 (fun r g_21 hk_ => ?_) (fun x g1 h => z_out C hQ h)
      clear h; obtain ⟨v_22, rfl, h⟩ := hk_
      show GW X E 7 g_21 37 [(0, .ref a0), (1, .ref a1), (2, .int x2), (3, .int x3), (4, .int x4), (5, .int x5)] [.int v_22]
      intro H locs ls hR hS hl
      refine lv_istore (lv' := [(6, .int v_22), (0, .ref a0), (1, .ref a1), (2, .int x2), (3, .int x3), (4, .int x4), (5, .int x5)]) C.x C.b dX9_counted_37 hl (by decide) rfl (fun ls hl => ?_)
      refine lv_iload_n C.x C.b dX9_counted_39 rfl (lv_at hl 4 rfl) ?_
      refine lv_iload C.x C.b dX9_counted_40 (lv_at hl 0 rfl) ?_
      refine lv_iconst (v := 1) C.x C.b dX9_counted_42 (by decide) ?_
      obtain ⟨h1, h2⟩ := h
      refine lv_icmp_ne (tgt := 50) C.x C.b dX9_counted_43 (by decide) (fun c => ?_) (fun c => ?_)
      · have h := h1 c; clear h1 h2
        refine lv_iconst (v := 0) C.x C.b dX9_counted_50 (by decide) ?_
        refine lv_iadd C.x C.b dX9_counted_51 ?_
        refine lv_istore_n (lv' := [(3, .int (x3 + 0)), (6, .int v_22), (0, .ref a0), (1, .ref a1), (2, .int x2), (4, .int x4), (5, .int x5)]) C.x C.b dX9_counted_52 rfl hl (by decide) rfl (fun ls hl => ?_)
        refine lv_iload C.x C.b dX9_counted_53 (lv_at hl 5 rfl) ?_
        refine lv_iload C.x C.b dX9_counted_55 (lv_at hl 1 rfl) ?_
        refine lv_iconst (v := 2) C.x C.b dX9_counted_57 (by decide) ?_
        obtain ⟨h1, h2⟩ := h
        refine lv_icmp_ne (tgt := 65) C.x C.b dX9_counted_58 (by decide) (fun c => ?_) (fun c => ?_)
        · have h := h1 c; clear h1 h2
          refine lv_iconst (v := 0) C.x C.b dX9_counted_65 (by decide) ?_
          refine lv_iadd C.x C.b dX9_counted_66 ?_
          refine lv_istore (lv' := [(4, .int (x4 + 0)), (3, .int (x3 + 0)), (6, .int v_22), (0, .ref a0), (1, .ref a1), (2, .int x2), (5, .int x5)]) C.x C.b dX9_counted_67 hl (by decide) rfl (fun ls hl => ?_)
          refine lv_iinc (v := x5 + (-1)) (lv' := [(5, .int (x5 + (-1))), (4, .int (x4 + 0)), (3, .int (x3 + 0)), (6, .int v_22), (0, .ref a0), (1, .ref a1), (2, .int x2)]) C.x C.b dX9_counted_69 hl (k := 6) rfl rfl (by decide) rfl (fun ls hl => ?_)
          refine lv_goto (tgt := 8) C.x C.b dX9_counted_72 (by decide) ?_
          exact h H locs ls hR hS (lv_sub hl [4, 5, 6, 2, 1, 0] rfl)
        · have h := h2 c; clear h1 h2
          refine lv_iconst (v := 1) C.x C.b dX9_counted_61 (by decide) ?_
          refine lv_goto (tgt := 66) C.x C.b dX9_counted_62 (by decide) ?_
          refine lv_iadd C.x C.b dX9_counted_66 ?_
          refine lv_istore (lv' := [(4, .int (x4 + 1)), (3, .int (x3 + 0)), (6, .int v_22), (0, .ref a0), (1, .ref a1), (2, .int x2), (5, .int x5)]) C.x C.b dX9_counted_67 hl (by decide) rfl (fun ls hl => ?_)
          refine lv_iinc (v := x5 + (-1)) (lv' := [(5, .int (x5 + (-1))), (4, .int (x4 + 1)), (3, .int (x3 + 0)), (6, .int v_22), (0, .ref a0), (1, .ref a1), (2, .int x2)]) C.x C.b dX9_counted_69 hl (k := 6) rfl rfl (by decide) rfl (fun ls hl => ?_)
          refine lv_goto (tgt := 8) C.x C.b dX9_counted_72 (by decide) ?_
          exact h H locs ls hR hS (lv_sub hl [4, 5, 6, 2, 1, 0] rfl)
      · have h := h2 c; clear h1 h2
        refine lv_iconst (v := 1) C.x C.b dX9_counted_46 (by decide) ?_
        refine lv_goto (tgt := 51) C.x C.b dX9_counted_47 (by decide) ?_
        refine lv_iadd C.x C.b dX9_counted_51 ?_
        refine lv_istore_n (lv' := [(3, .int (x3 + 1)), (6, .int v_22), (0, .ref a0), (1, .ref a1), (2, .int x2), (4, .int x4), (5, .int x5)]) C.x C.b dX9_counted_52 rfl hl (by decide) rfl (fun ls hl => ?_)
        refine lv_iload C.x C.b dX9_counted_53 (lv_at hl 5 rfl) ?_
        refine lv_iload C.x C.b dX9_counted_55 (lv_at hl 1 rfl) ?_
        refine lv_iconst (v := 2) C.x C.b dX9_counted_57 (by decide) ?_
        obtain ⟨h1, h2⟩ := h
        refine lv_icmp_ne (tgt := 65) C.x C.b dX9_counted_58 (by decide) (fun c => ?_) (fun c => ?_)
        · have h := h1 c; clear h1 h2
          refine lv_iconst (v := 0) C.x C.b dX9_counted_65 (by decide) ?_
          refine lv_iadd C.x C.b dX9_counted_66 ?_
          refine lv_istore (lv' := [(4, .int (x4 + 0)), (3, .int (x3 + 1)), (6, .int v_22), (0, .ref a0), (1, .ref a1), (2, .int x2), (5, .int x5)]) C.x C.b dX9_counted_67 hl (by decide) rfl (fun ls hl => ?_)
          refine lv_iinc (v := x5 + (-1)) (lv' := [(5, .int (x5 + (-1))), (4, .int (x4 + 0)), (3, .int (x3 + 1)), (6, .int v_22), (0, .ref a0), (1, .ref a1), (2, .int x2)]) C.x C.b dX9_counted_69 hl (k := 6) rfl rfl (by decide) rfl (fun ls hl => ?_)
          refine lv_goto (tgt := 8) C.x C.b dX9_counted_72 (by decide) ?_
          exact h H locs ls hR hS (lv_sub hl [4, 5, 6, 2, 1, 0] rfl)
        · have h := h2 c; clear h1 h2
          refine lv_iconst (v := 1) C.x C.b dX9_counted_61 (by decide) ?_
          refine lv_goto (tgt := 66) C.x C.b dX9_counted_62 (by decide) ?_
          refine lv_iadd C.x C.b dX9_counted_66 ?_
          refine lv_istore (lv' := [(4, .int (x4 + 1)), (3, .int (x3 + 1)), (6, .int v_22), (0, .ref a0), (1, .ref a1), (2, .int x2), (5, .int x5)]) C.x C.b dX9_counted_67 hl (by decide) rfl (fun ls hl => ?_)
          refine lv_iinc (v := x5 + (-1)) (lv' := [(5, .int (x5 + (-1))), (4, .int (x4 + 1)), (3, .int (x3 + 1)), (6, .int v_22), (0, .ref a0), (1, .ref a1), (2, .int x2)]) C.x C.b dX9_counted_69 hl (k := 6) rfl rfl (by decide) rfl (fun ls hl => ?_)
          refine lv_goto (tgt := 8) C.x C.b dX9_counted_72 (by decide) ?_
          exact h H locs ls hR hS (lv_sub hl [4, 5, 6, 2, 1, 0] rfl)
set_option maxHeartbeats 4000000 in
theorem mX9_counted {X : zX} {d : Nat} {g : zG} {K : Option Value → zG → Prop} {KX : String → zG → Prop} (hok : zOk X) (a0 : Nat) (a1 : Nat) (x2 : Int32) (h : ∀ E : zM, zC X (d + 1) E RX9 cX9_counted 7 (some .int) "counted" → zQ X E K KX → GW X E 7 g 8 [(0, .ref a0), (1, .ref a1), (2, .int x2), (3, .int 0), (4, .int 0), (5, .int x2)] []) : zCal X (d + 1) yX9_counted wX9_counted [.ref a0, .ref a1, .int x2] g K KX := by
  refine z_enter hok pn_X9 (Nat.le_of_ble_eq_true rfl) (fun E C hQ => ?_)
  have C : zC X (d + 1) E RX9 cX9_counted 7 (some .int) "counted" := C
  have h := h E C hQ
  show GW X E 7 g 0 [(0, .ref a0), (1, .ref a1), (2, .int x2)] []
  intro H locs ls hR hS hl
  refine lv_iconst (v := 0) C.x C.b dX9_counted_0 (by decide) ?_
  refine lv_istore_n (lv' := [(3, .int 0), (0, .ref a0), (1, .ref a1), (2, .int x2)]) C.x C.b dX9_counted_1 rfl hl (by decide) rfl (fun ls hl => ?_)
  refine lv_iconst (v := 0) C.x C.b dX9_counted_2 (by decide) ?_
  refine lv_istore (lv' := [(4, .int 0), (3, .int 0), (0, .ref a0), (1, .ref a1), (2, .int x2)]) C.x C.b dX9_counted_3 hl (by decide) rfl (fun ls hl => ?_)
  refine lv_iload_n C.x C.b dX9_counted_5 rfl (lv_at hl 4 rfl) ?_
  refine lv_istore (lv' := [(5, .int x2), (4, .int 0), (3, .int 0), (0, .ref a0), (1, .ref a1), (2, .int x2)]) C.x C.b dX9_counted_6 hl (by decide) rfl (fun ls hl => ?_)
  exact h H locs ls hR hS (lv_sub hl [3, 4, 5, 2, 1, 0] rfl)
theorem hdS_J21_signum : yJ21_signum.cls ≠ "java/lang/invoke/MethodHandle" ∧ yJ21_signum.cls ≠ "java/lang/invoke/VarHandle" ∧ (parseMethodDescriptor yJ21_signum.desc).map (fun d => d.parameters.length) = some 1 := by decide +kernel
theorem hdS_X1_negated : yX1_negated.cls ≠ "java/lang/invoke/MethodHandle" ∧ yX1_negated.cls ≠ "java/lang/invoke/VarHandle" ∧ (parseMethodDescriptor yX1_negated.desc).map (fun d => d.parameters.length) = some 1 := by decide +kernel
theorem hdV_X9_ahead : yX9_ahead.cls = RX9 ∧ yX9_ahead.cls ≠ "java/lang/invoke/MethodHandle" ∧ yX9_ahead.cls ≠ "java/lang/invoke/VarHandle" ∧ (parseMethodDescriptor yX9_ahead.desc).map (fun d => d.parameters.length) = some 2 := by decide +kernel
theorem hdV_X9_behind : yX9_behind.cls = RX9 ∧ yX9_behind.cls ≠ "java/lang/invoke/MethodHandle" ∧ yX9_behind.cls ≠ "java/lang/invoke/VarHandle" ∧ (parseMethodDescriptor yX9_behind.desc).map (fun d => d.parameters.length) = some 2 := by decide +kernel
theorem hdV_X9_counted : yX9_counted.cls = RX9 ∧ yX9_counted.cls ≠ "java/lang/invoke/MethodHandle" ∧ yX9_counted.cls ≠ "java/lang/invoke/VarHandle" ∧ (parseMethodDescriptor yX9_counted.desc).map (fun d => d.parameters.length) = some 2 := by decide +kernel
set_option maxHeartbeats 4000000 in
theorem mX9_answer {X : zX} {d : Nat} {g : zG} {K : Option Value → zG → Prop} {KX : String → zG → Prop} (hok : zOk X) (a0 : Nat) (a1 : Nat) (x2 : Int32) (h : ∃ (k_2 : Nat) (fs_1 : List Value) (a_3 : Nat), zkc k_2 = 7 ∧ zGo g k_2 a1 = some fs_1 ∧ fs_1[0]? = some (.ref a_3) ∧ ∃ k_4 : Nat, k_4 < 12 ∧ a_3 = zE X k_4 ∧ ∀ v_5 : Int32, v_5 = nI k_4 → (v_5 = 0 → ∃ (fs_6 : List Value) (a_7 : Nat), zGo g 9 a0 = some fs_6 ∧ fs_6[0]? = some (.ref a_7) ∧ zIs g 0 a_7 ∧ zCal X d yJ2_get wJ2_get [.ref a_7, .int x2] g (fun r g_8 => ∃ r_9 : Option Nat, r = some (va_rf r_9) ∧ ∃ a_10 : Nat, r_9 = some a_10 ∧ zIs g_8 4 a_10 ∧ ∃ (fs_11 : List Value) (v_12 : Int32), zGo g_8 4 a_10 = some fs_11 ∧ fs_11[3]? = some (.int v_12) ∧ ∃ (k_14 : Nat) (fs_13 : List Value) (v_15 : Int32), zkc k_14 = 7 ∧ zGo g_8 k_14 a1 = some fs_13 ∧ fs_13[1]? = some (.int v_15) ∧ (¬ v_12 = v_15 → K (some (.int 0)) g_8) ∧ (v_12 = v_15 → K (some (.int 1)) g_8)) KX) ∧ (v_5 = 1 → ∃ (fs_16 : List Value) (a_17 : Nat), zGo g 9 a0 = some fs_16 ∧ fs_16[0]? = some (.ref a_17) ∧ zIs g 0 a_17 ∧ zCal X d yJ2_get wJ2_get [.ref a_17, .int x2] g (fun r g_18 => ∃ r_19 : Option Nat, r = some (va_rf r_19) ∧ ∃ a_20 : Nat, r_19 = some a_20 ∧ zIs g_18 4 a_20 ∧ ∃ (fs_21 : List Value) (v_22 : Int32), zGo g_18 4 a_20 = some fs_21 ∧ fs_21[5]? = some (.int v_22) ∧ ∃ (k_24 : Nat) (fs_23 : List Value) (v_25 : Int32), zkc k_24 = 7 ∧ zGo g_18 k_24 a1 = some fs_23 ∧ fs_23[2]? = some (.int v_25) ∧ zCal X d yJ21_signum wJ21_signum [.int (v_22 - v_25)] g_18 (fun r g_26 => ∃ v_27 : Int32, r = some (.int v_27) ∧ ∃ (k_29 : Nat) (fs_28 : List Value) (v_30 : Int32), zkc k_29 = 7 ∧ zGo g_26 k_29 a1 = some fs_28 ∧ fs_28[1]? = some (.int v_30) ∧ (¬ (1 + v_27) = v_30 → K (some (.int 0)) g_26) ∧ ((1 + v_27) = v_30 → K (some (.int 1)) g_26)) KX) KX) ∧ (v_5 = 2 → ∃ (k_32 : Nat) (fs_31 : List Value) (r_33 : Option Nat), zkc k_32 = 7 ∧ zGo g k_32 a1 = some fs_31 ∧ fs_31[3]? = some (va_rf r_33) ∧ zIs g 9 a0 ∧ zCal X d yX9_at wX9_at [.ref a0, va_rf r_33, .int x2] g (fun r g_34 => ∃ v_35 : Int32, r = some (.int v_35) ∧ zCal X d yX1_negated wX1_negated [.int v_35] g_34 (fun r g_36 => ∃ v_37 : Int32, r = some (.int v_37) ∧ K (some (.int v_37)) g_36) KX) KX) ∧ (v_5 = 3 → ∃ (k_39 : Nat) (fs_38 : List Value) (r_40 : Option Nat), zkc k_39 = 7 ∧ zGo g k_39 a1 = some fs_38 ∧ fs_38[3]? = some (va_rf r_40) ∧ zIs g 9 a0 ∧ zCal X d yX9_at wX9_at [.ref a0, va_rf r_40, .int x2] g (fun r g_41 => ∃ v_42 : Int32, r = some (.int v_42) ∧ ∃ (k_44 : Nat) (fs_43 : List Value) (r_45 : Option Nat), zkc k_44 = 7 ∧ zGo g_41 k_44 a1 = some fs_43 ∧ fs_43[4]? = some (va_rf r_45) ∧ zIs g_41 9 a0 ∧ zCal X d yX9_at wX9_at [.ref a0, va_rf r_45, .int x2] g_41 (fun r g_46 => ∃ v_47 : Int32, r = some (.int v_47) ∧ zCal X d yX1_and wX1_and [.int v_42, .int v_47] g_46 (fun r g_48 => ∃ v_49 : Int32, r = some (.int v_49) ∧ K (some (.int v_49)) g_48) KX) KX) KX) ∧ (v_5 = 4 → ∃ (k_51 : Nat) (fs_50 : List Value) (r_52 : Option Nat), zkc k_51 = 7 ∧ zGo g k_51 a1 = some fs_50 ∧ fs_50[3]? = some (va_rf r_52) ∧ zIs g 9 a0 ∧ zCal X d yX9_at wX9_at [.ref a0, va_rf r_52, .int x2] g (fun r g_53 => ∃ v_54 : Int32, r = some (.int v_54) ∧ ∃ (k_56 : Nat) (fs_55 : List Value) (r_57 : Option Nat), zkc k_56 = 7 ∧ zGo g_53 k_56 a1 = some fs_55 ∧ fs_55[4]? = some (va_rf r_57) ∧ zIs g_53 9 a0 ∧ zCal X d yX9_at wX9_at [.ref a0, va_rf r_57, .int x2] g_53 (fun r g_58 => ∃ v_59 : Int32, r = some (.int v_59) ∧ zCal X d yX1_or wX1_or [.int v_54, .int v_59] g_58 (fun r g_60 => ∃ v_61 : Int32, r = some (.int v_61) ∧ K (some (.int v_61)) g_60) KX) KX) KX) ∧ (v_5 = 5 → (¬ x2 = 0 → ∃ (k_63 : Nat) (fs_62 : List Value) (r_64 : Option Nat), zkc k_63 = 7 ∧ zGo g k_63 a1 = some fs_62 ∧ fs_62[3]? = some (va_rf r_64) ∧ zIs g 9 a0 ∧ zCal X d yX9_at wX9_at [.ref a0, va_rf r_64, .int (x2 - 1)] g (fun r g_65 => ∃ v_66 : Int32, r = some (.int v_66) ∧ K (some (.int v_66)) g_65) KX) ∧ (x2 = 0 → K (some (.int 0)) g)) ∧ (v_5 = 6 → zIs g 9 a0 ∧ zCal X d yX9_behind wX9_behind [.ref a0, .ref a1, .int x2] g (fun r g_67 => ∃ v_68 : Int32, r = some (.int v_68) ∧ K (some (.int v_68)) g_67) KX) ∧ (v_5 = 7 → zIs g 9 a0 ∧ zCal X d yX9_behind wX9_behind [.ref a0, .ref a1, .int x2] g (fun r g_69 => ∃ v_70 : Int32, r = some (.int v_70) ∧ K (some (.int v_70)) g_69) KX) ∧ (v_5 = 8 → ∃ (fs_71 : List Value) (a_72 : Nat), zGo g 9 a0 = some fs_71 ∧ fs_71[0]? = some (.ref a_72) ∧ zIs g 0 a_72 ∧ zCal X d yJ2_size wJ2_size [.ref a_72] g (fun r g_73 => ∃ v_74 : Int32, r = some (.int v_74) ∧ (v_74 ≤ (x2 + 1) → ∃ (fs_75 : List Value) (a_76 : Nat), zGo g_73 9 a0 = some fs_75 ∧ fs_75[3]? = some (.ref a_76) ∧ ∃ (fs_77 : List Value) (v_78 : Int32), zGo g_73 1 a_76 = some fs_77 ∧ fs_77[6]? = some (.int v_78) ∧ (v_78 = 0 → K (some (.int 0)) g_73) ∧ (¬ v_78 = 0 → K (some (.int 2)) g_73)) ∧ (¬ v_74 ≤ (x2 + 1) → ∃ (k_80 : Nat) (fs_79 : List Value) (r_81 : Option Nat), zkc k_80 = 7 ∧ zGo g_73 k_80 a1 = some fs_79 ∧ fs_79[3]? = some (va_rf r_81) ∧ zIs g_73 9 a0 ∧ zCal X d yX9_at wX9_at [.ref a0, va_rf r_81, .int (x2 + 1)] g_73 (fun r g_82 => ∃ v_83 : Int32, r = some (.int v_83) ∧ K (some (.int v_83)) g_82) KX)) KX) ∧ (v_5 = 9 → zIs g 9 a0 ∧ zCal X d yX9_ahead wX9_ahead [.ref a0, .ref a1, .int x2] g (fun r g_84 => ∃ v_85 : Int32, r = some (.int v_85) ∧ K (some (.int v_85)) g_84) KX) ∧ (v_5 = 10 → zIs g 9 a0 ∧ zCal X d yX9_ahead wX9_ahead [.ref a0, .ref a1, .int x2] g (fun r g_86 => ∃ v_87 : Int32, r = some (.int v_87) ∧ K (some (.int v_87)) g_86) KX) ∧ (v_5 = 11 → zIs g 9 a0 ∧ zCal X d yX9_counted wX9_counted [.ref a0, .ref a1, .int x2] g (fun r g_88 => ∃ v_89 : Int32, r = some (.int v_89) ∧ K (some (.int v_89)) g_88) KX) ∧ (v_5.toInt < 0 ∨ 11 < v_5.toInt → zIs g 9 a0 ∧ zCal X d yX9_ahead wX9_ahead [.ref a0, .ref a1, .int x2] g (fun r g_90 => ∃ v_91 : Int32, r = some (.int v_91) ∧ K (some (.int v_91)) g_90) KX)) : zCal X (d + 1) yX9_answer wX9_answer [.ref a0, .ref a1, .int x2] g K KX := by
  refine z_enter hok pn_X9 (Nat.le_of_ble_eq_true rfl) (fun E C hQ => ?_)
  have C : zC X (d + 1) E RX9 cX9_answer 3 (some .int) "answer" := C
  show GW X E 3 g 0 [(0, .ref a0), (1, .ref a1), (2, .int x2)] []
  intro H locs ls hR hS hl
  refine lv_aload_n C.x C.b dX9_answer_0 rfl (lv_at hl 1 rfl) ?_
  obtain ⟨k_2, fs_1, a_3, q0, q1, q2, h⟩ := h
  refine z_getN C hR q1 q0 (ci := 7) rfl in_X7 0 (by decide) q1249 (fun _ h => h) q2 dX9_answer_1 ?_
  obtain ⟨k_4, q0, q1, h⟩ := h
  rw [q1]
  have h := h _ rfl
  refine z_ordinal C hR hS hl (lc := [(0, .ref a0), (1, .ref a1), (2, .int x2)]) (rest := []) q0 q479 (Nat.le_of_ble_eq_true rfl) dX9_answer_4 ?_
  generalize nI k_4 = v_5 at h ⊢
  show GW X E 3 g 7 [(0, .ref a0), (1, .ref a1), (2, .int x2)] [.int v_5]
  intro H locs ls hR hS hl
  obtain ⟨h_0, h_1, h_2, h_3, h_4, h_5, h_6, h_7, h_8, h_9, h_10, h_11, hd_⟩ := h
  rcases zsw_0_11 v_5 with c | c | c | c | c | c | c | c | c | c | c | c | c
  · have h := h_0 c; clear h_0 h_1 h_2 h_3 h_4 h_5 h_6 h_7 h_8 h_9 h_10 h_11 hd_
    refine lv_tableIn (off := 61) (tgt := 68) C.x C.b dX9_answer_7 (by rw [c]; decide) (by rw [c]; decide) (by rw [c]; rfl) (by decide) ?_
    refine lv_aload_n C.x C.b dX9_answer_68 rfl (lv_at hl 0 rfl) ?_
    obtain ⟨fs_6, a_7, q1, q2, h⟩ := h
    refine z_get C hR q1 rfl (ci := 9) rfl in_X9 0 (by decide) q1419 (fun _ h => h) q2 dX9_answer_69 ?_
    refine lv_iload_n C.x C.b dX9_answer_72 rfl (lv_at hl 2 rfl) ?_
    refine z_callF C hR hS hl (n := 1) (C1 := RJ2) (T := TJ2) (N := 3) (ci := 0) (y := yJ2_get) (bytes := cJ2_get) (maxL := 2) (rt := (some (.object "java/lang/Object"))) (As := [.int x2]) (rest := []) (x := ⟨"java/util/List", "get", "(I)Ljava/lang/Object;"⟩) h.1 rfl (lw_F q465 q381 q383 q76 q385) ⟨C.ok.2.1 _ q380, C.ok.2.1 _ q379, C.ok.2.1 _ q384, C.ok.2.1 _ q382, C.ok.2.1 _ q174⟩ hdF_J2_get (by decide) rfl rfl (Nat.le_of_ble_eq_true rfl) dX9_answer_73 h.2 (fun r g_8 hk_ => ?_) (fun x g1 h => z_out C hQ h)
    clear h; obtain ⟨r_9, rfl, h⟩ := hk_
    show GW X E 3 g_8 78 [(0, .ref a0), (1, .ref a1), (2, .int x2)] [va_rf r_9]
    intro H locs ls hR hS hl
    obtain ⟨a_10, e_, h⟩ := h; subst e_
    have hl : lv_has ls 3 [(0, .ref a0), (1, .ref a1), (2, .int x2)] := by assumption
    show zV X E H locs (F0 (zm E) 78 ls [.ref a_10])
    refine z_castS C hR (ci := 4) (C1 := RX4) (T := TX4) (N := 7) h.1 rfl q466 dX9_answer_78 ?_
    have h := h.2
    obtain ⟨fs_11, v_12, q1, q2, h⟩ := h
    refine z_getN C hR q1 rfl (ci := 4) rfl in_X4 3 (by decide) q792 (fun _ h => h) q2 dX9_answer_81 ?_
    refine lv_aload_n C.x C.b dX9_answer_84 rfl (lv_at hl 1 rfl) ?_
    obtain ⟨k_14, fs_13, v_15, q0, q1, q2, h⟩ := h
    refine z_getN C hR q1 q0 (ci := 7) rfl in_X7 1 (by decide) q1251 (fun _ h => h) q2 dX9_answer_85 ?_
    obtain ⟨h1, h2⟩ := h
    refine lv_icmp_ne (tgt := 95) C.x C.b dX9_answer_88 (by decide) (fun c => ?_) (fun c => ?_)
    · have h := h1 c; clear h1 h2
      refine lv_iconst (v := 0) C.x C.b dX9_answer_95 (by decide) ?_
      exact z_iret C hQ dX9_answer_96 h H locs ls hR hS hl
    · have h := h2 c; clear h1 h2
      refine lv_iconst (v := 1) C.x C.b dX9_answer_91 (by decide) ?_
      refine lv_goto (tgt := 96) C.x C.b dX9_answer_92 (by decide) ?_
      exact z_iret C hQ dX9_answer_96 h H locs ls hR hS hl
  · have h := h_1 c; clear h_0 h_1 h_2 h_3 h_4 h_5 h_6 h_7 h_8 h_9 h_10 h_11 hd_
    refine lv_tableIn (off := 90) (tgt := 97) C.x C.b dX9_answer_7 (by rw [c]; decide) (by rw [c]; decide) (by rw [c]; rfl) (by decide) ?_
    refine lv_iconst (v := 1) C.x C.b dX9_answer_97 (by decide) ?_
    refine lv_aload_n C.x C.b dX9_answer_98 rfl (lv_at hl 0 rfl) ?_
    obtain ⟨fs_16, a_17, q1, q2, h⟩ := h
    refine z_get C hR q1 rfl (ci := 9) rfl in_X9 0 (by decide) q1419 (fun _ h => h) q2 dX9_answer_99 ?_
    refine lv_iload_n C.x C.b dX9_answer_102 rfl (lv_at hl 2 rfl) ?_
    refine z_callF C hR hS hl (n := 1) (C1 := RJ2) (T := TJ2) (N := 3) (ci := 0) (y := yJ2_get) (bytes := cJ2_get) (maxL := 2) (rt := (some (.object "java/lang/Object"))) (As := [.int x2]) (rest := [.int 1]) (x := ⟨"java/util/List", "get", "(I)Ljava/lang/Object;"⟩) h.1 rfl (lw_F q465 q381 q383 q76 q385) ⟨C.ok.2.1 _ q380, C.ok.2.1 _ q379, C.ok.2.1 _ q384, C.ok.2.1 _ q382, C.ok.2.1 _ q174⟩ hdF_J2_get (by decide) rfl rfl (Nat.le_of_ble_eq_true rfl) dX9_answer_103 h.2 (fun r g_18 hk_ => ?_) (fun x g1 h => z_out C hQ h)
    clear h; obtain ⟨r_19, rfl, h⟩ := hk_
    show GW X E 3 g_18 108 [(0, .ref a0), (1, .ref a1), (2, .int x2)] [va_rf r_19, .int 1]
    intro H locs ls hR hS hl
    obtain ⟨a_20, e_, h⟩ := h; subst e_
    have hl : lv_has ls 3 [(0, .ref a0), (1, .ref a1), (2, .int x2)] := by assumption
    show zV X E H locs (F0 (zm E) 108 ls [.ref a_20, .int 1])
    refine z_castS C hR (ci := 4) (C1 := RX4) (T := TX4) (N := 7) h.1 rfl q466 dX9_answer_108 ?_
    have h := h.2
    obtain ⟨fs_21, v_22, q1, q2, h⟩ := h
    refine z_getN C hR q1 rfl (ci := 4) rfl in_X4 5 (by decide) q799 (fun _ h => h) q2 dX9_answer_111 ?_
    refine lv_aload_n C.x C.b dX9_answer_114 rfl (lv_at hl 1 rfl) ?_
    obtain ⟨k_24, fs_23, v_25, q0, q1, q2, h⟩ := h
    refine z_getN C hR q1 q0 (ci := 7) rfl in_X7 2 (by decide) q1253 (fun _ h => h) q2 dX9_answer_115 ?_
    refine lv_isub C.x C.b dX9_answer_118 ?_
    refine z_callS C hR hS hl (n := 1) (y := yJ21_signum) (bytes := cJ21_signum) (maxL := 1) (rt := (some .int)) (As := [.int (v_22 - v_25)]) (rest := [.int 1]) (lw_S q485 q486 q99 q487) hdS_J21_signum (by decide) rfl rfl (Nat.le_of_ble_eq_true rfl) dX9_answer_119 h (fun r g_26 hk_ => ?_) (fun x g1 h => z_out C hQ h)
    clear h; obtain ⟨v_27, rfl, h⟩ := hk_
    show GW X E 3 g_26 122 [(0, .ref a0), (1, .ref a1), (2, .int x2)] [.int v_27, .int 1]
    intro H locs ls hR hS hl
    refine lv_iadd C.x C.b dX9_answer_122 ?_
    refine lv_aload_n C.x C.b dX9_answer_123 rfl (lv_at hl 1 rfl) ?_
    obtain ⟨k_29, fs_28, v_30, q0, q1, q2, h⟩ := h
    refine z_getN C hR q1 q0 (ci := 7) rfl in_X7 1 (by decide) q1251 (fun _ h => h) q2 dX9_answer_124 ?_
    obtain ⟨h1, h2⟩ := h
    refine lv_icmp_ne (tgt := 134) C.x C.b dX9_answer_127 (by decide) (fun c => ?_) (fun c => ?_)
    · have h := h1 c; clear h1 h2
      refine lv_iconst (v := 0) C.x C.b dX9_answer_134 (by decide) ?_
      exact z_iret C hQ dX9_answer_135 h H locs ls hR hS hl
    · have h := h2 c; clear h1 h2
      refine lv_iconst (v := 1) C.x C.b dX9_answer_130 (by decide) ?_
      refine lv_goto (tgt := 135) C.x C.b dX9_answer_131 (by decide) ?_
      exact z_iret C hQ dX9_answer_135 h H locs ls hR hS hl
  · have h := h_2 c; clear h_0 h_1 h_2 h_3 h_4 h_5 h_6 h_7 h_8 h_9 h_10 h_11 hd_
    refine lv_tableIn (off := 129) (tgt := 136) C.x C.b dX9_answer_7 (by rw [c]; decide) (by rw [c]; decide) (by rw [c]; rfl) (by decide) ?_
    refine lv_aload_n C.x C.b dX9_answer_136 rfl (lv_at hl 0 rfl) ?_
    refine lv_aload_n C.x C.b dX9_answer_137 rfl (lv_at hl 1 rfl) ?_
    obtain ⟨k_32, fs_31, r_33, q0, q1, q2, h⟩ := h
    refine z_getN C hR q1 q0 (ci := 7) rfl in_X7 3 (by decide) q1255 (fun _ h => h) q2 dX9_answer_138 ?_
    refine lv_iload_n C.x C.b dX9_answer_141 rfl (lv_at hl 2 rfl) ?_
    refine z_callV C hR hS hl (n := 2) (C1 := RX9) (T := TX9) (N := 4) (ci := 9) (y := yX9_at) (bytes := cX9_at) (maxL := 3) (rt := (some .int)) (As := [va_rf r_33, .int x2]) (rest := []) h.1 rfl (lw_V q488 q489 q490 q108 q491) hdV_X9_at (by decide) rfl rfl (Nat.le_of_ble_eq_true rfl) dX9_answer_142 h.2 (fun r g_34 hk_ => ?_) (fun x g1 h => z_out C hQ h)
    clear h; obtain ⟨v_35, rfl, h⟩ := hk_
    show GW X E 3 g_34 145 [(0, .ref a0), (1, .ref a1), (2, .int x2)] [.int v_35]
    intro H locs ls hR hS hl
    refine z_callSN C hR hS hl (n := 1) (y := yX1_negated) (bytes := cX1_negated) (maxL := 1) (rt := (some .int)) (As := [.int v_35]) (rest := []) (lw_meth q494) (C.nestM q492) (C.ts _ q73) (C.ts _ q493) hdS_X1_negated (by decide) rfl rfl (Nat.le_of_ble_eq_true rfl) dX9_answer_145 h (fun r g_36 hk_ => ?_) (fun x g1 h => z_out C hQ h)
    clear h; obtain ⟨v_37, rfl, h⟩ := hk_
    show GW X E 3 g_36 148 [(0, .ref a0), (1, .ref a1), (2, .int x2)] [.int v_37]
    intro H locs ls hR hS hl
    exact z_iret C hQ dX9_answer_148 h H locs ls hR hS hl
  · have h := h_3 c; clear h_0 h_1 h_2 h_3 h_4 h_5 h_6 h_7 h_8 h_9 h_10 h_11 hd_
    refine lv_tableIn (off := 142) (tgt := 149) C.x C.b dX9_answer_7 (by rw [c]; decide) (by rw [c]; decide) (by rw [c]; rfl) (by decide) ?_
    refine lv_aload_n C.x C.b dX9_answer_149 rfl (lv_at hl 0 rfl) ?_
    refine lv_aload_n C.x C.b dX9_answer_150 rfl (lv_at hl 1 rfl) ?_
    obtain ⟨k_39, fs_38, r_40, q0, q1, q2, h⟩ := h
    refine z_getN C hR q1 q0 (ci := 7) rfl in_X7 3 (by decide) q1255 (fun _ h => h) q2 dX9_answer_151 ?_
    refine lv_iload_n C.x C.b dX9_answer_154 rfl (lv_at hl 2 rfl) ?_
    refine z_callV C hR hS hl (n := 2) (C1 := RX9) (T := TX9) (N := 4) (ci := 9) (y := yX9_at) (bytes := cX9_at) (maxL := 3) (rt := (some .int)) (As := [va_rf r_40, .int x2]) (rest := []) h.1 rfl (lw_V q488 q489 q490 q108 q491) hdV_X9_at (by decide) rfl rfl (Nat.le_of_ble_eq_true rfl) dX9_answer_155 h.2 (fun r g_41 hk_ => ?_) (fun x g1 h => z_out C hQ h)
    clear h; obtain ⟨v_42, rfl, h⟩ := hk_
    show GW X E 3 g_41 158 [(0, .ref a0), (1, .ref a1), (2, .int x2)] [.int v_42]
    intro H locs ls hR hS hl
    refine lv_aload_n C.x C.b dX9_answer_158 rfl (lv_at hl 0 rfl) ?_
    refine lv_aload_n C.x C.b dX9_answer_159 rfl (lv_at hl 1 rfl) ?_
    obtain ⟨k_44, fs_43, r_45, q0, q1, q2, h⟩ := h
    refine z_getN C hR q1 q0 (ci := 7) rfl in_X7 4 (by decide) q1257 (fun _ h => h) q2 dX9_answer_160 ?_
    refine lv_iload_n C.x C.b dX9_answer_163 rfl (lv_at hl 2 rfl) ?_
    refine z_callV C hR hS hl (n := 2) (C1 := RX9) (T := TX9) (N := 4) (ci := 9) (y := yX9_at) (bytes := cX9_at) (maxL := 3) (rt := (some .int)) (As := [va_rf r_45, .int x2]) (rest := [.int v_42]) h.1 rfl (lw_V q488 q489 q490 q108 q491) hdV_X9_at (by decide) rfl rfl (Nat.le_of_ble_eq_true rfl) dX9_answer_164 h.2 (fun r g_46 hk_ => ?_) (fun x g1 h => z_out C hQ h)
    clear h; obtain ⟨v_47, rfl, h⟩ := hk_
    show GW X E 3 g_46 167 [(0, .ref a0), (1, .ref a1), (2, .int x2)] [.int v_47, .int v_42]
    intro H locs ls hR hS hl
    refine z_callSN C hR hS hl (n := 2) (y := yX1_and) (bytes := cX1_and) (maxL := 2) (rt := (some .int)) (As := [.int v_42, .int v_47]) (rest := []) (lw_meth q497) (C.nestM q495) (C.ts _ q73) (C.ts _ q496) hdS_X1_and (by decide) rfl rfl (Nat.le_of_ble_eq_true rfl) dX9_answer_167 h (fun r g_48 hk_ => ?_) (fun x g1 h => z_out C hQ h)
    clear h; obtain ⟨v_49, rfl, h⟩ := hk_
    show GW X E 3 g_48 170 [(0, .ref a0), (1, .ref a1), (2, .int x2)] [.int v_49]
    intro H locs ls hR hS hl
    exact z_iret C hQ dX9_answer_170 h H locs ls hR hS hl
  · have h := h_4 c; clear h_0 h_1 h_2 h_3 h_4 h_5 h_6 h_7 h_8 h_9 h_10 h_11 hd_
    refine lv_tableIn (off := 164) (tgt := 171) C.x C.b dX9_answer_7 (by rw [c]; decide) (by rw [c]; decide) (by rw [c]; rfl) (by decide) ?_
    refine lv_aload_n C.x C.b dX9_answer_171 rfl (lv_at hl 0 rfl) ?_
    refine lv_aload_n C.x C.b dX9_answer_172 rfl (lv_at hl 1 rfl) ?_
    obtain ⟨k_51, fs_50, r_52, q0, q1, q2, h⟩ := h
    refine z_getN C hR q1 q0 (ci := 7) rfl in_X7 3 (by decide) q1255 (fun _ h => h) q2 dX9_answer_173 ?_
    refine lv_iload_n C.x C.b dX9_answer_176 rfl (lv_at hl 2 rfl) ?_
    refine z_callV C hR hS hl (n := 2) (C1 := RX9) (T := TX9) (N := 4) (ci := 9) (y := yX9_at) (bytes := cX9_at) (maxL := 3) (rt := (some .int)) (As := [va_rf r_52, .int x2]) (rest := []) h.1 rfl (lw_V q488 q489 q490 q108 q491) hdV_X9_at (by decide) rfl rfl (Nat.le_of_ble_eq_true rfl) dX9_answer_177 h.2 (fun r g_53 hk_ => ?_) (fun x g1 h => z_out C hQ h)
    clear h; obtain ⟨v_54, rfl, h⟩ := hk_
    show GW X E 3 g_53 180 [(0, .ref a0), (1, .ref a1), (2, .int x2)] [.int v_54]
    intro H locs ls hR hS hl
    refine lv_aload_n C.x C.b dX9_answer_180 rfl (lv_at hl 0 rfl) ?_
    refine lv_aload_n C.x C.b dX9_answer_181 rfl (lv_at hl 1 rfl) ?_
    obtain ⟨k_56, fs_55, r_57, q0, q1, q2, h⟩ := h
    refine z_getN C hR q1 q0 (ci := 7) rfl in_X7 4 (by decide) q1257 (fun _ h => h) q2 dX9_answer_182 ?_
    refine lv_iload_n C.x C.b dX9_answer_185 rfl (lv_at hl 2 rfl) ?_
    refine z_callV C hR hS hl (n := 2) (C1 := RX9) (T := TX9) (N := 4) (ci := 9) (y := yX9_at) (bytes := cX9_at) (maxL := 3) (rt := (some .int)) (As := [va_rf r_57, .int x2]) (rest := [.int v_54]) h.1 rfl (lw_V q488 q489 q490 q108 q491) hdV_X9_at (by decide) rfl rfl (Nat.le_of_ble_eq_true rfl) dX9_answer_186 h.2 (fun r g_58 hk_ => ?_) (fun x g1 h => z_out C hQ h)
    clear h; obtain ⟨v_59, rfl, h⟩ := hk_
    show GW X E 3 g_58 189 [(0, .ref a0), (1, .ref a1), (2, .int x2)] [.int v_59, .int v_54]
    intro H locs ls hR hS hl
    refine z_callSN C hR hS hl (n := 2) (y := yX1_or) (bytes := cX1_or) (maxL := 2) (rt := (some .int)) (As := [.int v_54, .int v_59]) (rest := []) (lw_meth q500) (C.nestM q498) (C.ts _ q73) (C.ts _ q499) hdS_X1_or (by decide) rfl rfl (Nat.le_of_ble_eq_true rfl) dX9_answer_189 h (fun r g_60 hk_ => ?_) (fun x g1 h => z_out C hQ h)
    clear h; obtain ⟨v_61, rfl, h⟩ := hk_
    show GW X E 3 g_60 192 [(0, .ref a0), (1, .ref a1), (2, .int x2)] [.int v_61]
    intro H locs ls hR hS hl
    exact z_iret C hQ dX9_answer_192 h H locs ls hR hS hl
  · have h := h_5 c; clear h_0 h_1 h_2 h_3 h_4 h_5 h_6 h_7 h_8 h_9 h_10 h_11 hd_
    refine lv_tableIn (off := 186) (tgt := 193) C.x C.b dX9_answer_7 (by rw [c]; decide) (by rw [c]; decide) (by rw [c]; rfl) (by decide) ?_
    refine lv_iload_n C.x C.b dX9_answer_193 rfl (lv_at hl 2 rfl) ?_
    obtain ⟨h1, h2⟩ := h
    refine lv_if_ne (tgt := 201) C.x C.b dX9_answer_194 (by decide) (fun c => ?_) (fun c => ?_)
    · have h := h1 c; clear h1 h2
      refine lv_aload_n C.x C.b dX9_answer_201 rfl (lv_at hl 0 rfl) ?_
      refine lv_aload_n C.x C.b dX9_answer_202 rfl (lv_at hl 1 rfl) ?_
      obtain ⟨k_63, fs_62, r_64, q0, q1, q2, h⟩ := h
      refine z_getN C hR q1 q0 (ci := 7) rfl in_X7 3 (by decide) q1255 (fun _ h => h) q2 dX9_answer_203 ?_
      refine lv_iload_n C.x C.b dX9_answer_206 rfl (lv_at hl 2 rfl) ?_
      refine lv_iconst (v := 1) C.x C.b dX9_answer_207 (by decide) ?_
      refine lv_isub C.x C.b dX9_answer_208 ?_
      refine z_callV C hR hS hl (n := 2) (C1 := RX9) (T := TX9) (N := 4) (ci := 9) (y := yX9_at) (bytes := cX9_at) (maxL := 3) (rt := (some .int)) (As := [va_rf r_64, .int (x2 - 1)]) (rest := []) h.1 rfl (lw_V q488 q489 q490 q108 q491) hdV_X9_at (by decide) rfl rfl (Nat.le_of_ble_eq_true rfl) dX9_answer_209 h.2 (fun r g_65 hk_ => ?_) (fun x g1 h => z_out C hQ h)
      clear h; obtain ⟨v_66, rfl, h⟩ := hk_
      show GW X E 3 g_65 212 [(0, .ref a0), (1, .ref a1), (2, .int x2)] [.int v_66]
      intro H locs ls hR hS hl
      exact z_iret C hQ dX9_answer_212 h H locs ls hR hS hl
    · have h := h2 c; clear h1 h2
      refine lv_iconst (v := 0) C.x C.b dX9_answer_197 (by decide) ?_
      refine lv_goto (tgt := 212) C.x C.b dX9_answer_198 (by decide) ?_
      exact z_iret C hQ dX9_answer_212 h H locs ls hR hS hl
  · have h := h_6 c; clear h_0 h_1 h_2 h_3 h_4 h_5 h_6 h_7 h_8 h_9 h_10 h_11 hd_
    refine lv_tableIn (off := 251) (tgt := 258) C.x C.b dX9_answer_7 (by rw [c]; decide) (by rw [c]; decide) (by rw [c]; rfl) (by decide) ?_
    refine lv_aload_n C.x C.b dX9_answer_258 rfl (lv_at hl 0 rfl) ?_
    refine lv_aload_n C.x C.b dX9_answer_259 rfl (lv_at hl 1 rfl) ?_
    refine lv_iload_n C.x C.b dX9_answer_260 rfl (lv_at hl 2 rfl) ?_
    refine z_callV C hR hS hl (n := 2) (C1 := RX9) (T := TX9) (N := 4) (ci := 9) (y := yX9_behind) (bytes := cX9_behind) (maxL := 7) (rt := (some .int)) (As := [.ref a1, .int x2]) (rest := []) h.1 rfl (lw_V q501 q503 qs6 q108 q504) hdV_X9_behind (by decide) rfl rfl (Nat.le_of_ble_eq_true rfl) dX9_answer_261 h.2 (fun r g_67 hk_ => ?_) (fun x g1 h => z_out C hQ h)
    clear h; obtain ⟨v_68, rfl, h⟩ := hk_
    show GW X E 3 g_67 264 [(0, .ref a0), (1, .ref a1), (2, .int x2)] [.int v_68]
    intro H locs ls hR hS hl
    exact z_iret C hQ dX9_answer_264 h H locs ls hR hS hl
  · have h := h_7 c; clear h_0 h_1 h_2 h_3 h_4 h_5 h_6 h_7 h_8 h_9 h_10 h_11 hd_
    refine lv_tableIn (off := 251) (tgt := 258) C.x C.b dX9_answer_7 (by rw [c]; decide) (by rw [c]; decide) (by rw [c]; rfl) (by decide) ?_
    refine lv_aload_n C.x C.b dX9_answer_258 rfl (lv_at hl 0 rfl) ?_
    refine lv_aload_n C.x C.b dX9_answer_259 rfl (lv_at hl 1 rfl) ?_
    refine lv_iload_n C.x C.b dX9_answer_260 rfl (lv_at hl 2 rfl) ?_
    refine z_callV C hR hS hl (n := 2) (C1 := RX9) (T := TX9) (N := 4) (ci := 9) (y := yX9_behind) (bytes := cX9_behind) (maxL := 7) (rt := (some .int)) (As := [.ref a1, .int x2]) (rest := []) h.1 rfl (lw_V q501 q503 qs6 q108 q504) hdV_X9_behind (by decide) rfl rfl (Nat.le_of_ble_eq_true rfl) dX9_answer_261 h.2 (fun r g_69 hk_ => ?_) (fun x g1 h => z_out C hQ h)
    clear h; obtain ⟨v_70, rfl, h⟩ := hk_
    show GW X E 3 g_69 264 [(0, .ref a0), (1, .ref a1), (2, .int x2)] [.int v_70]
    intro H locs ls hR hS hl
    exact z_iret C hQ dX9_answer_264 h H locs ls hR hS hl
  · have h := h_8 c; clear h_0 h_1 h_2 h_3 h_4 h_5 h_6 h_7 h_8 h_9 h_10 h_11 hd_
    refine lv_tableIn (off := 206) (tgt := 213) C.x C.b dX9_answer_7 (by rw [c]; decide) (by rw [c]; decide) (by rw [c]; rfl) (by decide) ?_
    refine lv_iload_n C.x C.b dX9_answer_213 rfl (lv_at hl 2 rfl) ?_
    refine lv_iconst (v := 1) C.x C.b dX9_answer_214 (by decide) ?_
    refine lv_iadd C.x C.b dX9_answer_215 ?_
    refine lv_aload_n C.x C.b dX9_answer_216 rfl (lv_at hl 0 rfl) ?_
    obtain ⟨fs_71, a_72, q1, q2, h⟩ := h
    refine z_get C hR q1 rfl (ci := 9) rfl in_X9 0 (by decide) q1419 (fun _ h => h) q2 dX9_answer_217 ?_
    refine z_callF C hR hS hl (n := 0) (C1 := RJ2) (T := TJ2) (N := 3) (ci := 0) (y := yJ2_size) (bytes := cJ2_size) (maxL := 1) (rt := (some .int)) (As := []) (rest := [.int (x2 + 1)]) (x := ⟨"java/util/List", "size", "()I"⟩) h.1 rfl (lw_F q463 q294 q296 q76 q298) ⟨C.ok.2.1 _ q293, C.ok.2.1 _ q292, C.ok.2.1 _ q297, C.ok.2.1 _ q295, C.ok.2.1 _ q174⟩ hdF_J2_size (by decide) rfl rfl (Nat.le_of_ble_eq_true rfl) dX9_answer_220 h.2 (fun r g_73 hk_ => ?_) (fun x g1 h => z_out C hQ h)
    clear h; obtain ⟨v_74, rfl, h⟩ := hk_
    show GW X E 3 g_73 225 [(0, .ref a0), (1, .ref a1), (2, .int x2)] [.int v_74, .int (x2 + 1)]
    intro H locs ls hR hS hl
    obtain ⟨h1, h2⟩ := h
    refine lv_icmp_ge (tgt := 242) C.x C.b dX9_answer_225 (by decide) (fun c => ?_) (fun c => ?_)
    · have h := h1 c; clear h1 h2
      refine lv_aload_n C.x C.b dX9_answer_242 rfl (lv_at hl 0 rfl) ?_
      obtain ⟨fs_75, a_76, q1, q2, h⟩ := h
      refine z_get C hR q1 rfl (ci := 9) rfl in_X9 3 (by decide) q1424 (fun _ h => h) q2 dX9_answer_243 ?_
      obtain ⟨fs_77, v_78, q1, q2, h⟩ := h
      refine z_getN C hR q1 rfl (ci := 1) rfl in_X1 6 (by decide) q254 (fun _ h => h) q2 dX9_answer_246 ?_
      obtain ⟨h1, h2⟩ := h
      refine lv_if_eq (tgt := 256) C.x C.b dX9_answer_249 (by decide) (fun c => ?_) (fun c => ?_)
      · have h := h1 c; clear h1 h2
        refine lv_iconst (v := 0) C.x C.b dX9_answer_256 (by decide) ?_
        exact z_iret C hQ dX9_answer_257 h H locs ls hR hS hl
      · have h := h2 c; clear h1 h2
        refine lv_iconst (v := 2) C.x C.b dX9_answer_252 (by decide) ?_
        refine lv_goto (tgt := 257) C.x C.b dX9_answer_253 (by decide) ?_
        exact z_iret C hQ dX9_answer_257 h H locs ls hR hS hl
    · have h := h2 c; clear h1 h2
      refine lv_aload_n C.x C.b dX9_answer_228 rfl (lv_at hl 0 rfl) ?_
      refine lv_aload_n C.x C.b dX9_answer_229 rfl (lv_at hl 1 rfl) ?_
      obtain ⟨k_80, fs_79, r_81, q0, q1, q2, h⟩ := h
      refine z_getN C hR q1 q0 (ci := 7) rfl in_X7 3 (by decide) q1255 (fun _ h => h) q2 dX9_answer_230 ?_
      refine lv_iload_n C.x C.b dX9_answer_233 rfl (lv_at hl 2 rfl) ?_
      refine lv_iconst (v := 1) C.x C.b dX9_answer_234 (by decide) ?_
      refine lv_iadd C.x C.b dX9_answer_235 ?_
      refine z_callV C hR hS hl (n := 2) (C1 := RX9) (T := TX9) (N := 4) (ci := 9) (y := yX9_at) (bytes := cX9_at) (maxL := 3) (rt := (some .int)) (As := [va_rf r_81, .int (x2 + 1)]) (rest := []) h.1 rfl (lw_V q488 q489 q490 q108 q491) hdV_X9_at (by decide) rfl rfl (Nat.le_of_ble_eq_true rfl) dX9_answer_236 h.2 (fun r g_82 hk_ => ?_) (fun x g1 h => z_out C hQ h)
      clear h; obtain ⟨v_83, rfl, h⟩ := hk_
      show GW X E 3 g_82 239 [(0, .ref a0), (1, .ref a1), (2, .int x2)] [.int v_83]
      intro H locs ls hR hS hl
      refine lv_goto (tgt := 257) C.x C.b dX9_answer_239 (by decide) ?_
      exact z_iret C hQ dX9_answer_257 h H locs ls hR hS hl
  · have h := h_9 c; clear h_0 h_1 h_2 h_3 h_4 h_5 h_6 h_7 h_8 h_9 h_10 h_11 hd_
    refine lv_tableIn (off := 265) (tgt := 272) C.x C.b dX9_answer_7 (by rw [c]; decide) (by rw [c]; decide) (by rw [c]; rfl) (by decide) ?_
    refine lv_aload_n C.x C.b dX9_answer_272 rfl (lv_at hl 0 rfl) ?_
    refine lv_aload_n C.x C.b dX9_answer_273 rfl (lv_at hl 1 rfl) ?_
    refine lv_iload_n C.x C.b dX9_answer_274 rfl (lv_at hl 2 rfl) ?_
    refine z_callV C hR hS hl (n := 2) (C1 := RX9) (T := TX9) (N := 4) (ci := 9) (y := yX9_ahead) (bytes := cX9_ahead) (maxL := 7) (rt := (some .int)) (As := [.ref a1, .int x2]) (rest := []) h.1 rfl (lw_V q518 q520 qs9 q108 q521) hdV_X9_ahead (by decide) rfl rfl (Nat.le_of_ble_eq_true rfl) dX9_answer_275 h.2 (fun r g_84 hk_ => ?_) (fun x g1 h => z_out C hQ h)
    clear h; obtain ⟨v_85, rfl, h⟩ := hk_
    show GW X E 3 g_84 278 [(0, .ref a0), (1, .ref a1), (2, .int x2)] [.int v_85]
    intro H locs ls hR hS hl
    exact z_iret C hQ dX9_answer_278 h H locs ls hR hS hl
  · have h := h_10 c; clear h_0 h_1 h_2 h_3 h_4 h_5 h_6 h_7 h_8 h_9 h_10 h_11 hd_
    refine lv_tableIn (off := 265) (tgt := 272) C.x C.b dX9_answer_7 (by rw [c]; decide) (by rw [c]; decide) (by rw [c]; rfl) (by decide) ?_
    refine lv_aload_n C.x C.b dX9_answer_272 rfl (lv_at hl 0 rfl) ?_
    refine lv_aload_n C.x C.b dX9_answer_273 rfl (lv_at hl 1 rfl) ?_
    refine lv_iload_n C.x C.b dX9_answer_274 rfl (lv_at hl 2 rfl) ?_
    refine z_callV C hR hS hl (n := 2) (C1 := RX9) (T := TX9) (N := 4) (ci := 9) (y := yX9_ahead) (bytes := cX9_ahead) (maxL := 7) (rt := (some .int)) (As := [.ref a1, .int x2]) (rest := []) h.1 rfl (lw_V q518 q520 qs9 q108 q521) hdV_X9_ahead (by decide) rfl rfl (Nat.le_of_ble_eq_true rfl) dX9_answer_275 h.2 (fun r g_86 hk_ => ?_) (fun x g1 h => z_out C hQ h)
    clear h; obtain ⟨v_87, rfl, h⟩ := hk_
    show GW X E 3 g_86 278 [(0, .ref a0), (1, .ref a1), (2, .int x2)] [.int v_87]
    intro H locs ls hR hS hl
    exact z_iret C hQ dX9_answer_278 h H locs ls hR hS hl
  · have h := h_11 c; clear h_0 h_1 h_2 h_3 h_4 h_5 h_6 h_7 h_8 h_9 h_10 h_11 hd_
    refine lv_tableIn (off := 258) (tgt := 265) C.x C.b dX9_answer_7 (by rw [c]; decide) (by rw [c]; decide) (by rw [c]; rfl) (by decide) ?_
    refine lv_aload_n C.x C.b dX9_answer_265 rfl (lv_at hl 0 rfl) ?_
    refine lv_aload_n C.x C.b dX9_answer_266 rfl (lv_at hl 1 rfl) ?_
    refine lv_iload_n C.x C.b dX9_answer_267 rfl (lv_at hl 2 rfl) ?_
    refine z_callV C hR hS hl (n := 2) (C1 := RX9) (T := TX9) (N := 4) (ci := 9) (y := yX9_counted) (bytes := cX9_counted) (maxL := 7) (rt := (some .int)) (As := [.ref a1, .int x2]) (rest := []) h.1 rfl (lw_V q514 q516 qs8 q108 q517) hdV_X9_counted (by decide) rfl rfl (Nat.le_of_ble_eq_true rfl) dX9_answer_268 h.2 (fun r g_88 hk_ => ?_) (fun x g1 h => z_out C hQ h)
    clear h; obtain ⟨v_89, rfl, h⟩ := hk_
    show GW X E 3 g_88 271 [(0, .ref a0), (1, .ref a1), (2, .int x2)] [.int v_89]
    intro H locs ls hR hS hl
    exact z_iret C hQ dX9_answer_271 h H locs ls hR hS hl
  · have h := hd_ c; clear h_0 h_1 h_2 h_3 h_4 h_5 h_6 h_7 h_8 h_9 h_10 h_11 hd_
    refine lv_tableOut (tgt := 272) C.x C.b dX9_answer_7 c (by decide) ?_
    refine lv_aload_n C.x C.b dX9_answer_272 rfl (lv_at hl 0 rfl) ?_
    refine lv_aload_n C.x C.b dX9_answer_273 rfl (lv_at hl 1 rfl) ?_
    refine lv_iload_n C.x C.b dX9_answer_274 rfl (lv_at hl 2 rfl) ?_
    refine z_callV C hR hS hl (n := 2) (C1 := RX9) (T := TX9) (N := 4) (ci := 9) (y := yX9_ahead) (bytes := cX9_ahead) (maxL := 7) (rt := (some .int)) (As := [.ref a1, .int x2]) (rest := []) h.1 rfl (lw_V q518 q520 qs9 q108 q521) hdV_X9_ahead (by decide) rfl rfl (Nat.le_of_ble_eq_true rfl) dX9_answer_275 h.2 (fun r g_90 hk_ => ?_) (fun x g1 h => z_out C hQ h)
    clear h; obtain ⟨v_91, rfl, h⟩ := hk_
    show GW X E 3 g_90 278 [(0, .ref a0), (1, .ref a1), (2, .int x2)] [.int v_91]
    intro H locs ls hR hS hl
    exact z_iret C hQ dX9_answer_278 h H locs ls hR hS hl
set_option maxHeartbeats 4000000 in
theorem bX9_fill_2 {X : zX} {d : Nat} {E : zM} {K : Option Value → zG → Prop} {KX : String → zG → Prop} (C : zC X (d + 1) E RX9 cX9_fill 4 none "fill") (hQ : zQ X E K KX) (g : zG) (a0 : Nat) (x1 : Int32) (h : ∃ (fs_1 : List Value) (a_2 : Nat), zGo g 9 a0 = some fs_1 ∧ fs_1[1]? = some (.ref a_2) ∧ zIs g 0 a_2 ∧ zCal X d yJ2_size wJ2_size [.ref a_2] g (fun r g_3 => ∃ v_4 : Int32, r = some (.int v_4) ∧ (v_4 ≤ x1 → K none g_3) ∧ (¬ v_4 ≤ x1 → ∃ (fs_5 : List Value) (a_6 : Nat), zGo g_3 9 a0 = some fs_5 ∧ fs_5[1]? = some (.ref a_6) ∧ zIs g_3 0 a_6 ∧ zCal X d yJ2_get wJ2_get [.ref a_6, .int x1] g_3 (fun r g_7 => ∃ r_8 : Option Nat, r = some (va_rf r_8) ∧ ∃ a_9 : Nat, r_8 = some a_9 ∧ zIs g_7 7 a_9 ∧ GW X E 4 g_7 31 [(0, .ref a0), (1, .int x1), (2, .ref a_9), (3, .int 0)] []) KX)) KX) : GW X E 4 g 2 [(0, .ref a0), (1, .int x1)] [] := by
  intro H locs ls hR hS hl
  refine lv_iload_n C.x C.b dX9_fill_2 rfl (lv_at hl 1 rfl) ?_
  refine lv_aload_n C.x C.b dX9_fill_3 rfl (lv_at hl 0 rfl) ?_
  obtain ⟨fs_1, a_2, q1, q2, h⟩ := h
  refine z_get C hR q1 rfl (ci := 9) rfl in_X9 1 (by decide) q1421 (fun _ h => h) q2 dX9_fill_4 ?_
  refine z_callF C hR hS hl (n := 0) (C1 := RJ2) (T := TJ2) (N := 3) (ci := 0) (y := yJ2_size) (bytes := cJ2_size) (maxL := 1) (rt := (some .int)) (As := []) (rest := [.int x1]) (x := ⟨"java/util/List", "size", "()I"⟩) h.1 rfl (lw_F q463 q294 q296 q76 q298) ⟨C.ok.2.1 _ q293, C.ok.2.1 _ q292, C.ok.2.1 _ q297, C.ok.2.1 _ q295, C.ok.2.1 _ q174⟩ hdF_J2_size (by decide) rfl rfl (Nat.le_of_ble_eq_true rfl) dX9_fill_7 h.2 (fun r g_3 hk_ => ?_) (fun x g1 h => z_out C hQ h)
  clear h; obtain ⟨v_4, rfl, h⟩ := hk_
  show GW X E 4 g_3 12 [(0, .ref a0), (1, .int x1)] [.int v_4, .int x1]
  intro H locs ls hR hS hl
  obtain ⟨h1, h2⟩ := h
  refine lv_icmp_ge (tgt := 73) C.x C.b dX9_fill_12 (by decide) (fun c => ?_) (fun c => ?_)
  · have h := h1 c; clear h1 h2
    exact z_vret C hQ dX9_fill_73 h H locs ls hR hS hl
  · have h := h2 c; clear h1 h2
    refine lv_aload_n C.x C.b dX9_fill_15 rfl (lv_at hl 0 rfl) ?_
    obtain ⟨fs_5, a_6, q1, q2, h⟩ := h
    refine z_get C hR q1 rfl (ci := 9) rfl in_X9 1 (by decide) q1421 (fun _ h => h) q2 dX9_fill_16 ?_
    refine lv_iload_n C.x C.b dX9_fill_19 rfl (lv_at hl 1 rfl) ?_
    refine z_callF C hR hS hl (n := 1) (C1 := RJ2) (T := TJ2) (N := 3) (ci := 0) (y := yJ2_get) (bytes := cJ2_get) (maxL := 2) (rt := (some (.object "java/lang/Object"))) (As := [.int x1]) (rest := []) (x := ⟨"java/util/List", "get", "(I)Ljava/lang/Object;"⟩) h.1 rfl (lw_F q465 q381 q383 q76 q385) ⟨C.ok.2.1 _ q380, C.ok.2.1 _ q379, C.ok.2.1 _ q384, C.ok.2.1 _ q382, C.ok.2.1 _ q174⟩ hdF_J2_get (by decide) rfl rfl (Nat.le_of_ble_eq_true rfl) dX9_fill_20 h.2 (fun r g_7 hk_ => ?_) (fun x g1 h => z_out C hQ h)
    clear h; obtain ⟨r_8, rfl, h⟩ := hk_
    show GW X E 4 g_7 25 [(0, .ref a0), (1, .int x1)] [va_rf r_8]
    intro H locs ls hR hS hl
    obtain ⟨a_9, e_, h⟩ := h; subst e_
    have hl : lv_has ls 4 [(0, .ref a0), (1, .int x1)] := by assumption
    show zV X E H locs (F0 (zm E) 25 ls [.ref a_9])
    refine z_castS C hR (ci := 7) (C1 := RX7) (T := TX7) (N := 7) h.1 rfl q473 dX9_fill_25 ?_
    have h := h.2
    refine lv_astore_n (lv' := [(2, .ref a_9), (0, .ref a0), (1, .int x1)]) C.x C.b dX9_fill_28 rfl hl (by decide) rfl (fun ls hl => ?_)
    refine lv_iconst (v := 0) C.x C.b dX9_fill_29 (by decide) ?_
    refine lv_istore_n (lv' := [(3, .int 0), (2, .ref a_9), (0, .ref a0), (1, .int x1)]) C.x C.b dX9_fill_30 rfl hl (by decide) rfl (fun ls hl => ?_)
    exact h H locs ls hR hS (lv_sub hl [2, 3, 1, 0] rfl)
set_option maxHeartbeats 4000000 in
theorem bX9_fill_31 {X : zX} {d : Nat} {E : zM} {K : Option Value → zG → Prop} {KX : String → zG → Prop} (C : zC X (d + 1) E RX9 cX9_fill 4 none "fill") (hQ : zQ X E K KX) (g : zG) (a0 : Nat) (x1 : Int32) (a2 : Nat) (x3 : Int32) (h : ∃ (fs_1 : List Value) (a_2 : Nat), zGo g 9 a0 = some fs_1 ∧ fs_1[0]? = some (.ref a_2) ∧ zIs g 0 a_2 ∧ zCal X d yJ2_size wJ2_size [.ref a_2] g (fun r g_3 => ∃ v_4 : Int32, r = some (.int v_4) ∧ (v_4 ≤ x3 → GW X E 4 g_3 2 [(0, .ref a0), (1, .int (x1 + 1))] []) ∧ (¬ v_4 ≤ x3 → ∃ (fs_5 : List Value) (a_6 : Nat), zGo g_3 9 a0 = some fs_5 ∧ fs_5[2]? = some (.ref a_6) ∧ ∃ (k_8 : Nat) (fs_7 : List Value) (v_9 : Int32), zkc k_8 = 7 ∧ zGo g_3 k_8 a2 = some fs_7 ∧ fs_7[6]? = some (.int v_9) ∧ ∃ (t_10 n_11 : Nat) (f_12 : Nat → Option Nat), zGq g_3 t_10 a_6 = some (n_11, f_12) ∧ vp_in v_9 n_11 ∧ ∀ r_13 : Option Nat, r_13 = f_12 v_9.toNatClampNeg → zIs g_3 9 a0 ∧ zCal X d yX9_answer wX9_answer [.ref a0, .ref a2, .int x3] g_3 (fun r g_14 => ∃ v_15 : Int32, r = some (.int v_15) ∧ ∃ a_16 : Nat, r_13 = some a_16 ∧ ∃ (t_20 : Nat) (n_17 : Nat) (f_18 : Nat → Int32), zGi g_14 t_20 a_16 = some (n_17, f_18) ∧ t_20 < 100 ∧ vp_in x3 n_17 ∧ ∀ g_19 : zG, g_19 = zSi g_14 t_20 a_16 n_17 (upd f_18 x3.toNatClampNeg v_15) → GW X E 4 g_19 31 [(0, .ref a0), (1, .int x1), (2, .ref a2), (3, .int (x3 + 1))] []) KX)) KX) : GW X E 4 g 31 [(0, .ref a0), (1, .int x1), (2, .ref a2), (3, .int x3)] [] := by
  intro H locs ls hR hS hl
  refine lv_iload_n C.x C.b dX9_fill_31 rfl (lv_at hl 3 rfl) ?_
  refine lv_aload_n C.x C.b dX9_fill_32 rfl (lv_at hl 0 rfl) ?_
  obtain ⟨fs_1, a_2, q1, q2, h⟩ := h
  refine z_get C hR q1 rfl (ci := 9) rfl in_X9 0 (by decide) q1419 (fun _ h => h) q2 dX9_fill_33 ?_
  refine z_callF C hR hS hl (n := 0) (C1 := RJ2) (T := TJ2) (N := 3) (ci := 0) (y := yJ2_size) (bytes := cJ2_size) (maxL := 1) (rt := (some .int)) (As := []) (rest := [.int x3]) (x := ⟨"java/util/List", "size", "()I"⟩) h.1 rfl (lw_F q463 q294 q296 q76 q298) ⟨C.ok.2.1 _ q293, C.ok.2.1 _ q292, C.ok.2.1 _ q297, C.ok.2.1 _ q295, C.ok.2.1 _ q174⟩ hdF_J2_size (by decide) rfl rfl (Nat.le_of_ble_eq_true rfl) dX9_fill_36 h.2 (fun r g_3 hk_ => ?_) (fun x g1 h => z_out C hQ h)
  clear h; obtain ⟨v_4, rfl, h⟩ := hk_
  show GW X E 4 g_3 41 [(0, .ref a0), (1, .int x1), (2, .ref a2), (3, .int x3)] [.int v_4, .int x3]
  intro H locs ls hR hS hl
  obtain ⟨h1, h2⟩ := h
  refine lv_icmp_ge (tgt := 67) C.x C.b dX9_fill_41 (by decide) (fun c => ?_) (fun c => ?_)
  · have h := h1 c; clear h1 h2
    refine lv_iinc (v := x1 + 1) (lv' := [(1, .int (x1 + 1)), (0, .ref a0), (2, .ref a2), (3, .int x3)]) C.x C.b dX9_fill_67 hl (k := 1) rfl rfl (by decide) rfl (fun ls hl => ?_)
    refine lv_goto (tgt := 2) C.x C.b dX9_fill_70 (by decide) ?_
    exact h H locs ls hR hS (lv_sub hl [1, 0] rfl)
  · have h := h2 c; clear h1 h2
    refine lv_aload_n C.x C.b dX9_fill_44 rfl (lv_at hl 0 rfl) ?_
    obtain ⟨fs_5, a_6, q1, q2, h⟩ := h
    refine z_get C hR q1 rfl (ci := 9) rfl in_X9 2 (by decide) q1422 (fun _ h => h) q2 dX9_fill_45 ?_
    refine lv_aload_n C.x C.b dX9_fill_48 rfl (lv_at hl 2 rfl) ?_
    obtain ⟨k_8, fs_7, v_9, q0, q1, q2, h⟩ := h
    refine z_getN C hR q1 q0 (ci := 7) rfl in_X7 6 (by decide) q1261 (fun _ h => h) q2 dX9_fill_49 ?_
    obtain ⟨t_10, n_11, f_12, q1, q2, h⟩ := h
    refine z_aald C hR q1 q2 dX9_fill_52 ?_
    have h := h _ rfl
    generalize f_12 v_9.toNatClampNeg = r_13 at h ⊢
    refine lv_iload_n C.x C.b dX9_fill_53 rfl (lv_at hl 3 rfl) ?_
    refine lv_aload_n C.x C.b dX9_fill_54 rfl (lv_at hl 0 rfl) ?_
    refine lv_aload_n C.x C.b dX9_fill_55 rfl (lv_at hl 2 rfl) ?_
    refine lv_iload_n C.x C.b dX9_fill_56 rfl (lv_at hl 3 rfl) ?_
    refine z_callV C hR hS hl (n := 2) (C1 := RX9) (T := TX9) (N := 4) (ci := 9) (y := yX9_answer) (bytes := cX9_answer) (maxL := 3) (rt := (some .int)) (As := [.ref a2, .int x3]) (rest := [.int x3, va_rf r_13]) h.1 rfl (lw_V q474 q476 qs5 q108 q478) hdV_X9_answer (by decide) rfl rfl (by simp [zrf_cat, zc_r, zc_i, zc_n, zc_l]) dX9_fill_57 h.2 (fun r g_14 hk_ => ?_) (fun x g1 h => z_out C hQ h)
    clear h; obtain ⟨v_15, rfl, h⟩ := hk_
    show GW X E 4 g_14 60 [(0, .ref a0), (1, .int x1), (2, .ref a2), (3, .int x3)] [.int v_15, .int x3, va_rf r_13]
    intro H locs ls hR hS hl
    obtain ⟨a_16, e_, h⟩ := h; subst e_
    have hl : lv_has ls 4 [(0, .ref a0), (1, .int x1), (2, .ref a2), (3, .int x3)] := by assumption
    show zV X E H locs (F0 (zm E) 60 ls [.int v_15, .int x3, .ref a_16])
    obtain ⟨t_20, n_17, f_18, q1, q0, q2, h⟩ := h
    refine z_iast C hR hS q1 q0 q2 dX9_fill_60 (fun H locs hR hS => ?_)
    have h := h _ rfl
    generalize zSi g_14 t_20 a_16 n_17 (upd f_18 x3.toNatClampNeg v_15) = g_19 at h hR
    refine lv_iinc (v := x3 + 1) (lv' := [(3, .int (x3 + 1)), (0, .ref a0), (1, .int x1), (2, .ref a2)]) C.x C.b dX9_fill_61 hl (k := 3) rfl rfl (by decide) rfl (fun ls hl => ?_)
    refine lv_goto (tgt := 31) C.x C.b dX9_fill_64 (by decide) ?_
    exact h H locs ls hR hS (lv_sub hl [1, 2, 3, 0] rfl)
set_option maxHeartbeats 4000000 in
theorem mX9_fill {X : zX} {d : Nat} {g : zG} {K : Option Value → zG → Prop} {KX : String → zG → Prop} (hok : zOk X) (a0 : Nat) (h : ∀ E : zM, zC X (d + 1) E RX9 cX9_fill 4 none "fill" → zQ X E K KX → GW X E 4 g 2 [(0, .ref a0), (1, .int 0)] []) : zCal X (d + 1) yX9_fill wX9_fill [.ref a0] g K KX := by
  refine z_enter hok pn_X9 (Nat.le_of_ble_eq_true rfl) (fun E C hQ => ?_)
  have C : zC X (d + 1) E RX9 cX9_fill 4 none "fill" := C
  have h := h E C hQ
  show GW X E 4 g 0 [(0, .ref a0)] []
  intro H locs ls hR hS hl
  refine lv_iconst (v := 0) C.x C.b dX9_fill_0 (by decide) ?_
  refine lv_istore_n (lv' := [(1, .int 0), (0, .ref a0)]) C.x C.b dX9_fill_1 rfl hl (by decide) rfl (fun ls hl => ?_)
  exact h H locs ls hR hS (lv_sub hl [1, 0] rfl)
theorem hdF_J2_indexOf : (yJ2_indexOf.name = (⟨"java/util/List", "indexOf", "(Ljava/lang/Object;)I"⟩ : MethodName).name ∧ yJ2_indexOf.desc = (⟨"java/util/List", "indexOf", "(Ljava/lang/Object;)I"⟩ : MethodName).desc) ∧ (⟨"java/util/List", "indexOf", "(Ljava/lang/Object;)I"⟩ : MethodName).cls ≠ "java/lang/invoke/MethodHandle" ∧ (⟨"java/util/List", "indexOf", "(Ljava/lang/Object;)I"⟩ : MethodName).cls ≠ "java/lang/invoke/VarHandle" ∧ (parseMethodDescriptor (⟨"java/util/List", "indexOf", "(Ljava/lang/Object;)I"⟩ : MethodName).desc).map (fun d => d.parameters.length) = some 1 := by decide +kernel
theorem hdS_X1_ids : yX1_ids.cls ≠ "java/lang/invoke/MethodHandle" ∧ yX1_ids.cls ≠ "java/lang/invoke/VarHandle" ∧ (parseMethodDescriptor yX1_ids.desc).map (fun d => d.parameters.length) = some 0 := by decide +kernel
theorem hdV_X9_fill : yX9_fill.cls = RX9 ∧ yX9_fill.cls ≠ "java/lang/invoke/MethodHandle" ∧ yX9_fill.cls ≠ "java/lang/invoke/VarHandle" ∧ (parseMethodDescriptor yX9_fill.desc).map (fun d => d.parameters.length) = some 0 := by decide +kernel
theorem hdV_X9_lay : yX9_lay.cls = RX9 ∧ yX9_lay.cls ≠ "java/lang/invoke/MethodHandle" ∧ yX9_lay.cls ≠ "java/lang/invoke/VarHandle" ∧ (parseMethodDescriptor yX9_lay.desc).map (fun d => d.parameters.length) = some 2 := by decide +kernel
set_option maxHeartbeats 4000000 in
theorem bX8_answerFor_15 {X : zX} {d : Nat} {E : zM} {K : Option Value → zG → Prop} {KX : String → zG → Prop} (C : zC X (d + 1) E RX8 cX8_answerFor 8 (some .int) "answerFor") (hQ : zQ X E K KX) (g : zG) (a0 : Nat) (a1 : Nat) (a2 : Nat) (x3 : Int32) (x4 : Int32) (x5 : Int32) (x6 : Int32) (h : ∃ (fs_1 : List Value) (v_2 : Int32), zGo g 8 a0 = some fs_1 ∧ fs_1[3]? = some (.int v_2) ∧ (v_2 = 0 → GW X E 8 g 30 [(0, .ref a0), (1, .ref a1), (2, .ref a2), (3, .int x3), (4, .int x4), (5, .int x5), (6, .int x6)] [.int 1, .int x6]) ∧ (¬ v_2 = 0 → GW X E 8 g 30 [(0, .ref a0), (1, .ref a1), (2, .ref a2), (3, .int x3), (4, .int x4), (5, .int x5), (6, .int x6)] [.int 10, .int x6])) : GW X E 8 g 15 [(0, .ref a0), (1, .ref a1), (2, .ref a2), (3, .int x3), (4, .int x4), (5, .int x5), (6, .int x6)] [] := by
  intro H locs ls hR hS hl
  refine lv_iload C.x C.b dX8_answerFor_15 (lv_at hl 6 rfl) ?_
  refine lv_aload_n C.x C.b dX8_answerFor_17 rfl (lv_at hl 0 rfl) ?_
  obtain ⟨fs_1, v_2, q1, q2, h⟩ := h
  refine z_get C hR q1 rfl (ci := 8) rfl in_X8 3 (by decide) q1439 (fun _ h => h) q2 dX8_answerFor_18 ?_
  obtain ⟨h1, h2⟩ := h
  refine lv_if_eq (tgt := 29) C.x C.b dX8_answerFor_21 (by decide) (fun c => ?_) (fun c => ?_)
  · have h := h1 c; clear h1 h2
    refine lv_iconst (v := 1) C.x C.b dX8_answerFor_29 (by decide) ?_
    exact h H locs ls hR hS (lv_sub hl [0, 1, 2, 3, 4, 5, 6] rfl)
  · have h := h2 c; clear h1 h2
    refine lv_bipush (v := 10) C.x C.b dX8_answerFor_24 (by decide) ?_
    refine lv_goto (tgt := 30) C.x C.b dX8_answerFor_26 (by decide) ?_
    exact h H locs ls hR hS (lv_sub hl [0, 1, 2, 3, 4, 5, 6] rfl)
set_option maxHeartbeats 4000000 in
theorem bX8_answerFor_30 {X : zX} {d : Nat} {E : zM} {K : Option Value → zG → Prop} {KX : String → zG → Prop} (C : zC X (d + 1) E RX8 cX8_answerFor 8 (some .int) "answerFor") (hQ : zQ X E K KX) (g : zG) (a0 : Nat) (a1 : Nat) (a2 : Nat) (x3 : Int32) (x4 : Int32) (x5 : Int32) (x6 : Int32) (t0 : Int32) (t1 : Int32) (h : (t1 ≤ t0 → K (some (.int x4)) g) ∧ (¬ t1 ≤ t0 → ∃ (fs_1 : List Value) (v_2 : Int32), zGo g 8 a0 = some fs_1 ∧ fs_1[3]? = some (.int v_2) ∧ (v_2 = 0 → GW X E 8 g 68 [(0, .ref a0), (1, .ref a1), (2, .ref a2), (3, .int x3), (4, .int x4), (5, .int x5), (6, .int x6)] []) ∧ (¬ v_2 = 0 → ∃ (fs_3 : List Value) (v_4 : Int32), zGo g 4 a1 = some fs_3 ∧ fs_3[4]? = some (.int v_4) ∧ (v_4 = x6 → GW X E 8 g 68 [(0, .ref a0), (1, .ref a1), (2, .ref a2), (3, .int x3), (4, .int x4), (5, .int x5), (6, .int x6)] []) ∧ (¬ v_4 = x6 → ∃ (fs_5 : List Value) (v_6 : Int32), zGo g 4 a1 = some fs_5 ∧ fs_5[4]? = some (.int v_6) ∧ (¬ v_6 = (-1) → GW X E 8 g 72 [(0, .ref a0), (1, .ref a1), (2, .ref a2), (3, .int x3), (4, .int x4), (5, .int x5), (6, .int x6)] []) ∧ (v_6 = (-1) → (¬ ((x5 >>> (x6 &&& 31)) &&& 1) = 1 → GW X E 8 g 72 [(0, .ref a0), (1, .ref a1), (2, .ref a2), (3, .int x3), (4, .int x4), (5, .int x5), (6, .int x6)] []) ∧ (((x5 >>> (x6 &&& 31)) &&& 1) = 1 → GW X E 8 g 68 [(0, .ref a0), (1, .ref a1), (2, .ref a2), (3, .int x3), (4, .int x4), (5, .int x5), (6, .int x6)] [])))))) : GW X E 8 g 30 [(0, .ref a0), (1, .ref a1), (2, .ref a2), (3, .int x3), (4, .int x4), (5, .int x5), (6, .int x6)] [.int t1, .int t0] := by
  intro H locs ls hR hS hl
  obtain ⟨h1, h2⟩ := h
  refine lv_icmp_ge (tgt := 149) C.x C.b dX8_answerFor_30 (by decide) (fun c => ?_) (fun c => ?_)
  · have h := h1 c; clear h1 h2
    refine lv_iload C.x C.b dX8_answerFor_149 (lv_at hl 4 rfl) ?_
    exact z_iret C hQ dX8_answerFor_151 h H locs ls hR hS hl
  · have h := h2 c; clear h1 h2
    refine lv_aload_n C.x C.b dX8_answerFor_33 rfl (lv_at hl 0 rfl) ?_
    obtain ⟨fs_1, v_2, q1, q2, h⟩ := h
    refine z_get C hR q1 rfl (ci := 8) rfl in_X8 3 (by decide) q1439 (fun _ h => h) q2 dX8_answerFor_34 ?_
    obtain ⟨h1, h2⟩ := h
    refine lv_if_eq (tgt := 68) C.x C.b dX8_answerFor_37 (by decide) (fun c => ?_) (fun c => ?_)
    · have h := h1 c; clear h1 h2
      exact h H locs ls hR hS (lv_sub hl [0, 1, 2, 3, 4, 5, 6] rfl)
    · have h := h2 c; clear h1 h2
      refine lv_aload_n C.x C.b dX8_answerFor_40 rfl (lv_at hl 1 rfl) ?_
      obtain ⟨fs_3, v_4, q1, q2, h⟩ := h
      refine z_getN C hR q1 rfl (ci := 4) rfl in_X4 4 (by decide) q796 (fun _ h => h) q2 dX8_answerFor_41 ?_
      refine lv_iload C.x C.b dX8_answerFor_44 (lv_at hl 6 rfl) ?_
      obtain ⟨h1, h2⟩ := h
      refine lv_icmp_eq (tgt := 68) C.x C.b dX8_answerFor_46 (by decide) (fun c => ?_) (fun c => ?_)
      · have h := h1 c; clear h1 h2
        exact h H locs ls hR hS (lv_sub hl [0, 1, 2, 3, 4, 5, 6] rfl)
      · have h := h2 c; clear h1 h2
        refine lv_aload_n C.x C.b dX8_answerFor_49 rfl (lv_at hl 1 rfl) ?_
        obtain ⟨fs_5, v_6, q1, q2, h⟩ := h
        refine z_getN C hR q1 rfl (ci := 4) rfl in_X4 4 (by decide) q796 (fun _ h => h) q2 dX8_answerFor_50 ?_
        refine lv_iconst (v := (-1)) C.x C.b dX8_answerFor_53 (by decide) ?_
        obtain ⟨h1, h2⟩ := h
        refine lv_icmp_ne (tgt := 72) C.x C.b dX8_answerFor_54 (by decide) (fun c => ?_) (fun c => ?_)
        · have h := h1 c; clear h1 h2
          exact h H locs ls hR hS (lv_sub hl [0, 1, 2, 3, 4, 5, 6] rfl)
        · have h := h2 c; clear h1 h2
          refine lv_iload C.x C.b dX8_answerFor_57 (lv_at hl 5 rfl) ?_
          refine lv_iload C.x C.b dX8_answerFor_59 (lv_at hl 6 rfl) ?_
          refine lv_ishr C.x C.b dX8_answerFor_61 ?_
          refine lv_iconst (v := 1) C.x C.b dX8_answerFor_62 (by decide) ?_
          refine lv_iand C.x C.b dX8_answerFor_63 ?_
          refine lv_iconst (v := 1) C.x C.b dX8_answerFor_64 (by decide) ?_
          obtain ⟨h1, h2⟩ := h
          refine lv_icmp_ne (tgt := 72) C.x C.b dX8_answerFor_65 (by decide) (fun c => ?_) (fun c => ?_)
          · have h := h1 c; clear h1 h2
            exact h H locs ls hR hS (lv_sub hl [0, 1, 2, 3, 4, 5, 6] rfl)
          · have h := h2 c; clear h1 h2
            exact h H locs ls hR hS (lv_sub hl [0, 1, 2, 3, 4, 5, 6] rfl)
set_option maxHeartbeats 4000000 in
theorem bX8_answerFor_68 {X : zX} {d : Nat} {E : zM} {K : Option Value → zG → Prop} {KX : String → zG → Prop} (C : zC X (d + 1) E RX8 cX8_answerFor 8 (some .int) "answerFor") (hQ : zQ X E K KX) (g : zG) (a0 : Nat) (a1 : Nat) (a2 : Nat) (x3 : Int32) (x4 : Int32) (x5 : Int32) (x6 : Int32) (h : GW X E 8 g 73 [(0, .ref a0), (1, .ref a1), (2, .ref a2), (3, .int x3), (4, .int x4), (5, .int x5), (6, .int x6)] [.int 1]) : GW X E 8 g 68 [(0, .ref a0), (1, .ref a1), (2, .ref a2), (3, .int x3), (4, .int x4), (5, .int x5), (6, .int x6)] [] := by
  intro H locs ls hR hS hl
  refine lv_iconst (v := 1) C.x C.b dX8_answerFor_68 (by decide) ?_
  refine lv_goto (tgt := 73) C.x C.b dX8_answerFor_69 (by decide) ?_
  exact h H locs ls hR hS (lv_sub hl [0, 1, 2, 3, 4, 5, 6] rfl)
set_option maxHeartbeats 4000000 in
theorem bX8_answerFor_72 {X : zX} {d : Nat} {E : zM} {K : Option Value → zG → Prop} {KX : String → zG → Prop} (C : zC X (d + 1) E RX8 cX8_answerFor 8 (some .int) "answerFor") (hQ : zQ X E K KX) (g : zG) (a0 : Nat) (a1 : Nat) (a2 : Nat) (x3 : Int32) (x4 : Int32) (x5 : Int32) (x6 : Int32) (h : GW X E 8 g 73 [(0, .ref a0), (1, .ref a1), (2, .ref a2), (3, .int x3), (4, .int x4), (5, .int x5), (6, .int x6)] [.int 0]) : GW X E 8 g 72 [(0, .ref a0), (1, .ref a1), (2, .ref a2), (3, .int x3), (4, .int x4), (5, .int x5), (6, .int x6)] [] := by
  intro H locs ls hR hS hl
  refine lv_iconst (v := 0) C.x C.b dX8_answerFor_72 (by decide) ?_
  exact h H locs ls hR hS (lv_sub hl [0, 1, 2, 3, 4, 5, 6] rfl)
set_option maxHeartbeats 4000000 in
theorem bX8_answerFor_73 {X : zX} {d : Nat} {E : zM} {K : Option Value → zG → Prop} {KX : String → zG → Prop} (C : zC X (d + 1) E RX8 cX8_answerFor 8 (some .int) "answerFor") (hQ : zQ X E K KX) (g : zG) (a0 : Nat) (a1 : Nat) (a2 : Nat) (x3 : Int32) (x4 : Int32) (x5 : Int32) (x6 : Int32) (t0 : Int32) (h : (t0 = 0 → GW X E 8 g 15 [(0, .ref a0), (1, .ref a1), (2, .ref a2), (3, .int x3), (4, .int x4), (5, .int x5), (6, .int (x6 + 1))] []) ∧ (¬ t0 = 0 → ∃ (fs_1 : List Value) (a_2 : Nat), zGo g 8 a0 = some fs_1 ∧ fs_1[2]? = some (.ref a_2) ∧ ∃ (fs_3 : List Value) (v_4 : Int32), zGo g 8 a0 = some fs_3 ∧ fs_3[3]? = some (.int v_4) ∧ (v_4 = 0 → zIs g 9 a_2 ∧ zCal X d yX9_lay wX9_lay [.ref a_2, .ref a2, .int (-1)] g (fun r g_5 => r = none ∧ (¬ x3 = 0 → ∃ (fs_6 : List Value) (a_7 : Nat), zGo g_5 8 a0 = some fs_6 ∧ fs_6[2]? = some (.ref a_7) ∧ ∃ (fs_8 : List Value) (a_9 : Nat), zGo g_5 8 a0 = some fs_8 ∧ fs_8[0]? = some (.ref a_9) ∧ ∃ (fs_10 : List Value) (a_11 : Nat), zGo g_5 8 a0 = some fs_10 ∧ fs_10[2]? = some (.ref a_11) ∧ ∃ (fs_12 : List Value) (a_13 : Nat), zGo g_5 9 a_11 = some fs_12 ∧ fs_12[0]? = some (.ref a_13) ∧ zIs g_5 0 a_13 ∧ zCal X d yJ2_indexOf wJ2_indexOf [.ref a_13, .ref a1] g_5 (fun r g_14 => ∃ v_15 : Int32, r = some (.int v_15) ∧ zIs g_14 9 a_7 ∧ zCal X d yX9_at wX9_at [.ref a_7, .ref a_9, .int v_15] g_14 (fun r g_16 => ∃ v_17 : Int32, r = some (.int v_17) ∧ zCal X d yX1_and wX1_and [.int x4, .int v_17] g_16 (fun r g_18 => ∃ v_19 : Int32, r = some (.int v_19) ∧ GW X E 8 g_18 15 [(0, .ref a0), (1, .ref a1), (2, .ref a2), (3, .int x3), (4, .int v_19), (5, .int x5), (6, .int (x6 + 1))] []) KX) KX) KX) ∧ (x3 = 0 → ∃ (fs_20 : List Value) (a_21 : Nat), zGo g_5 8 a0 = some fs_20 ∧ fs_20[2]? = some (.ref a_21) ∧ zIs g_5 9 a_21 ∧ zCal X d yX9_fill wX9_fill [.ref a_21] g_5 (fun r g_22 => r = none ∧ ∃ (fs_23 : List Value) (a_24 : Nat), zGo g_22 8 a0 = some fs_23 ∧ fs_23[2]? = some (.ref a_24) ∧ ∃ (fs_25 : List Value) (a_26 : Nat), zGo g_22 8 a0 = some fs_25 ∧ fs_25[0]? = some (.ref a_26) ∧ ∃ (fs_27 : List Value) (a_28 : Nat), zGo g_22 8 a0 = some fs_27 ∧ fs_27[2]? = some (.ref a_28) ∧ ∃ (fs_29 : List Value) (a_30 : Nat), zGo g_22 9 a_28 = some fs_29 ∧ fs_29[0]? = some (.ref a_30) ∧ zIs g_22 0 a_30 ∧ zCal X d yJ2_indexOf wJ2_indexOf [.ref a_30, .ref a1] g_22 (fun r g_31 => ∃ v_32 : Int32, r = some (.int v_32) ∧ zIs g_31 9 a_24 ∧ zCal X d yX9_at wX9_at [.ref a_24, .ref a_26, .int v_32] g_31 (fun r g_33 => ∃ v_34 : Int32, r = some (.int v_34) ∧ zCal X d yX1_and wX1_and [.int x4, .int v_34] g_33 (fun r g_35 => ∃ v_36 : Int32, r = some (.int v_36) ∧ GW X E 8 g_35 15 [(0, .ref a0), (1, .ref a1), (2, .ref a2), (3, .int x3), (4, .int v_36), (5, .int x5), (6, .int (x6 + 1))] []) KX) KX) KX) KX)) KX) ∧ (¬ v_4 = 0 → zIs g 9 a_2 ∧ zCal X d yX9_lay wX9_lay [.ref a_2, .ref a2, .int x6] g (fun r g_37 => r = none ∧ (¬ x3 = 0 → ∃ (fs_38 : List Value) (a_39 : Nat), zGo g_37 8 a0 = some fs_38 ∧ fs_38[2]? = some (.ref a_39) ∧ ∃ (fs_40 : List Value) (a_41 : Nat), zGo g_37 8 a0 = some fs_40 ∧ fs_40[0]? = some (.ref a_41) ∧ ∃ (fs_42 : List Value) (a_43 : Nat), zGo g_37 8 a0 = some fs_42 ∧ fs_42[2]? = some (.ref a_43) ∧ ∃ (fs_44 : List Value) (a_45 : Nat), zGo g_37 9 a_43 = some fs_44 ∧ fs_44[0]? = some (.ref a_45) ∧ zIs g_37 0 a_45 ∧ zCal X d yJ2_indexOf wJ2_indexOf [.ref a_45, .ref a1] g_37 (fun r g_46 => ∃ v_47 : Int32, r = some (.int v_47) ∧ zIs g_46 9 a_39 ∧ zCal X d yX9_at wX9_at [.ref a_39, .ref a_41, .int v_47] g_46 (fun r g_48 => ∃ v_49 : Int32, r = some (.int v_49) ∧ zCal X d yX1_and wX1_and [.int x4, .int v_49] g_48 (fun r g_50 => ∃ v_51 : Int32, r = some (.int v_51) ∧ GW X E 8 g_50 15 [(0, .ref a0), (1, .ref a1), (2, .ref a2), (3, .int x3), (4, .int v_51), (5, .int x5), (6, .int (x6 + 1))] []) KX) KX) KX) ∧ (x3 = 0 → ∃ (fs_52 : List Value) (a_53 : Nat), zGo g_37 8 a0 = some fs_52 ∧ fs_52[2]? = some (.ref a_53) ∧ zIs g_37 9 a_53 ∧ zCal X d yX9_fill wX9_fill [.ref a_53] g_37 (fun r g_54 => r = none ∧ ∃ (fs_55 : List Value) (a_56 : Nat), zGo g_54 8 a0 = some fs_55 ∧ fs_55[2]? = some (.ref a_56) ∧ ∃ (fs_57 : List Value) (a_58 : Nat), zGo g_54 8 a0 = some fs_57 ∧ fs_57[0]? = some (.ref a_58) ∧ ∃ (fs_59 : List Value) (a_60 : Nat), zGo g_54 8 a0 = some fs_59 ∧ fs_59[2]? = some (.ref a_60) ∧ ∃ (fs_61 : List Value) (a_62 : Nat), zGo g_54 9 a_60 = some fs_61 ∧ fs_61[0]? = some (.ref a_62) ∧ zIs g_54 0 a_62 ∧ zCal X d yJ2_indexOf wJ2_indexOf [.ref a_62, .ref a1] g_54 (fun r g_63 => ∃ v_64 : Int32, r = some (.int v_64) ∧ zIs g_63 9 a_56 ∧ zCal X d yX9_at wX9_at [.ref a_56, .ref a_58, .int v_64] g_63 (fun r g_65 => ∃ v_66 : Int32, r = some (.int v_66) ∧ zCal X d yX1_and wX1_and [.int x4, .int v_66] g_65 (fun r g_67 => ∃ v_68 : Int32, r = some (.int v_68) ∧ GW X E 8 g_67 15 [(0, .ref a0), (1, .ref a1), (2, .ref a2), (3, .int x3), (4, .int v_68), (5, .int x5), (6, .int (x6 + 1))] []) KX) KX) KX) KX)) KX))) : GW X E 8 g 73 [(0, .ref a0), (1, .ref a1), (2, .ref a2), (3, .int x3), (4, .int x4), (5, .int x5), (6, .int x6)] [.int t0] := by
  intro H locs ls hR hS hl
  refine lv_istore (lv' := [(7, .int t0), (0, .ref a0), (1, .ref a1), (2, .ref a2), (3, .int x3), (4, .int x4), (5, .int x5), (6, .int x6)]) C.x C.b dX8_answerFor_73 hl (by decide) rfl (fun ls hl => ?_)
  refine lv_iload C.x C.b dX8_answerFor_75 (lv_at hl 0 rfl) ?_
  obtain ⟨h1, h2⟩ := h
  refine lv_if_eq (tgt := 143) C.x C.b dX8_answerFor_77 (by decide) (fun c => ?_) (fun c => ?_)
  · have h := h1 c; clear h1 h2
    refine lv_iinc (v := x6 + 1) (lv' := [(6, .int (x6 + 1)), (7, .int t0), (0, .ref a0), (1, .ref a1), (2, .ref a2), (3, .int x3), (4, .int x4), (5, .int x5)]) C.x C.b dX8_answerFor_143 hl (k := 7) rfl rfl (by decide) rfl (fun ls hl => ?_)
    refine lv_goto (tgt := 15) C.x C.b dX8_answerFor_146 (by decide) ?_
    exact h H locs ls hR hS (lv_sub hl [2, 3, 4, 5, 6, 7, 0] rfl)
  · have h := h2 c; clear h1 h2
    refine lv_aload_n C.x C.b dX8_answerFor_80 rfl (lv_at hl 1 rfl) ?_
    obtain ⟨fs_1, a_2, q1, q2, h⟩ := h
    refine z_get C hR q1 rfl (ci := 8) rfl in_X8 2 (by decide) q1438 (fun _ h => h) q2 dX8_answerFor_81 ?_
    refine lv_aload_n C.x C.b dX8_answerFor_84 rfl (lv_at hl 3 rfl) ?_
    refine lv_aload_n C.x C.b dX8_answerFor_85 rfl (lv_at hl 1 rfl) ?_
    obtain ⟨fs_3, v_4, q1, q2, h⟩ := h
    refine z_get C hR q1 rfl (ci := 8) rfl in_X8 3 (by decide) q1439 (fun _ h => h) q2 dX8_answerFor_86 ?_
    obtain ⟨h1, h2⟩ := h
    refine lv_if_eq (tgt := 97) C.x C.b dX8_answerFor_89 (by decide) (fun c => ?_) (fun c => ?_)
    · have h := h1 c; clear h1 h2
      refine lv_iconst (v := (-1)) C.x C.b dX8_answerFor_97 (by decide) ?_
      refine z_callV C hR hS hl (n := 2) (C1 := RX9) (T := TX9) (N := 4) (ci := 9) (y := yX9_lay) (bytes := cX9_lay) (maxL := 5) (rt := none) (As := [.ref a2, .int (-1)]) (rest := []) h.1 rfl (lw_V q456 q457 q458 q108 q459) hdV_X9_lay (by decide) rfl rfl (Nat.le_of_ble_eq_true rfl) dX8_answerFor_98 h.2 (fun r g_5 hk_ => ?_) (fun x g1 h => z_out C hQ h)
      clear h; obtain ⟨rfl, h⟩ := hk_
      show GW X E 8 g_5 101 [(7, .int t0), (0, .ref a0), (1, .ref a1), (2, .ref a2), (3, .int x3), (4, .int x4), (5, .int x5), (6, .int x6)] []
      intro H locs ls hR hS hl
      refine lv_iload_n C.x C.b dX8_answerFor_101 rfl (lv_at hl 4 rfl) ?_
      obtain ⟨h1, h2⟩ := h
      refine lv_if_ne (tgt := 112) C.x C.b dX8_answerFor_102 (by decide) (fun c => ?_) (fun c => ?_)
      · have h := h1 c; clear h1 h2
        refine lv_iload C.x C.b dX8_answerFor_112 (lv_at hl 5 rfl) ?_
        refine lv_aload_n C.x C.b dX8_answerFor_114 rfl (lv_at hl 1 rfl) ?_
        obtain ⟨fs_6, a_7, q1, q2, h⟩ := h
        refine z_get C hR q1 rfl (ci := 8) rfl in_X8 2 (by decide) q1438 (fun _ h => h) q2 dX8_answerFor_115 ?_
        refine lv_aload_n C.x C.b dX8_answerFor_118 rfl (lv_at hl 1 rfl) ?_
        obtain ⟨fs_8, a_9, q1, q2, h⟩ := h
        refine z_get C hR q1 rfl (ci := 8) rfl in_X8 0 (by decide) q1434 (fun _ h => h) q2 dX8_answerFor_119 ?_
        refine lv_aload_n C.x C.b dX8_answerFor_122 rfl (lv_at hl 1 rfl) ?_
        obtain ⟨fs_10, a_11, q1, q2, h⟩ := h
        refine z_get C hR q1 rfl (ci := 8) rfl in_X8 2 (by decide) q1438 (fun _ h => h) q2 dX8_answerFor_123 ?_
        obtain ⟨fs_12, a_13, q1, q2, h⟩ := h
        refine z_getN C hR q1 rfl (ci := 9) rfl in_X9 0 (by decide) q1420 (fun _ h => h) q2 dX8_answerFor_126 ?_
        refine lv_aload_n C.x C.b dX8_answerFor_129 rfl (lv_at hl 2 rfl) ?_
        refine z_callF C hR hS hl (n := 1) (C1 := RJ2) (T := TJ2) (N := 3) (ci := 0) (y := yJ2_indexOf) (bytes := cJ2_indexOf) (maxL := 2) (rt := (some .int)) (As := [.ref a1]) (rest := [.ref a_9, .ref a_7, .int x4]) (x := ⟨"java/util/List", "indexOf", "(Ljava/lang/Object;)I"⟩) h.1 rfl (lw_F q529 q532 q534 q76 q536) ⟨C.ok.2.1 _ q531, C.ok.2.1 _ q530, C.ok.2.1 _ q535, C.ok.2.1 _ q533, C.ok.2.1 _ q174⟩ hdF_J2_indexOf (by decide) rfl rfl (Nat.le_of_ble_eq_true rfl) dX8_answerFor_130 h.2 (fun r g_14 hk_ => ?_) (fun x g1 h => z_out C hQ h)
        clear h; obtain ⟨v_15, rfl, h⟩ := hk_
        show GW X E 8 g_14 135 [(7, .int t0), (0, .ref a0), (1, .ref a1), (2, .ref a2), (3, .int x3), (4, .int x4), (5, .int x5), (6, .int x6)] [.int v_15, .ref a_9, .ref a_7, .int x4]
        intro H locs ls hR hS hl
        refine z_callV C hR hS hl (n := 2) (C1 := RX9) (T := TX9) (N := 4) (ci := 9) (y := yX9_at) (bytes := cX9_at) (maxL := 3) (rt := (some .int)) (As := [.ref a_9, .int v_15]) (rest := [.int x4]) h.1 rfl (lw_V q581 q489 q490 q108 q491) hdV_X9_at (by decide) rfl rfl (Nat.le_of_ble_eq_true rfl) dX8_answerFor_135 h.2 (fun r g_16 hk_ => ?_) (fun x g1 h => z_out C hQ h)
        clear h; obtain ⟨v_17, rfl, h⟩ := hk_
        show GW X E 8 g_16 138 [(7, .int t0), (0, .ref a0), (1, .ref a1), (2, .ref a2), (3, .int x3), (4, .int x4), (5, .int x5), (6, .int x6)] [.int v_17, .int x4]
        intro H locs ls hR hS hl
        refine z_callSN C hR hS hl (n := 2) (y := yX1_and) (bytes := cX1_and) (maxL := 2) (rt := (some .int)) (As := [.int x4, .int v_17]) (rest := []) (lw_meth q497) (C.nestM q582) (C.ts _ q73) (C.ts _ q496) hdS_X1_and (by decide) rfl rfl (Nat.le_of_ble_eq_true rfl) dX8_answerFor_138 h (fun r g_18 hk_ => ?_) (fun x g1 h => z_out C hQ h)
        clear h; obtain ⟨v_19, rfl, h⟩ := hk_
        show GW X E 8 g_18 141 [(7, .int t0), (0, .ref a0), (1, .ref a1), (2, .ref a2), (3, .int x3), (4, .int x4), (5, .int x5), (6, .int x6)] [.int v_19]
        intro H locs ls hR hS hl
        refine lv_istore (lv' := [(4, .int v_19), (7, .int t0), (0, .ref a0), (1, .ref a1), (2, .ref a2), (3, .int x3), (5, .int x5), (6, .int x6)]) C.x C.b dX8_answerFor_141 hl (by decide) rfl (fun ls hl => ?_)
        refine lv_iinc (v := x6 + 1) (lv' := [(6, .int (x6 + 1)), (4, .int v_19), (7, .int t0), (0, .ref a0), (1, .ref a1), (2, .ref a2), (3, .int x3), (5, .int x5)]) C.x C.b dX8_answerFor_143 hl (k := 7) rfl rfl (by decide) rfl (fun ls hl => ?_)
        refine lv_goto (tgt := 15) C.x C.b dX8_answerFor_146 (by decide) ?_
        exact h H locs ls hR hS (lv_sub hl [3, 4, 5, 6, 1, 7, 0] rfl)
      · have h := h2 c; clear h1 h2
        refine lv_aload_n C.x C.b dX8_answerFor_105 rfl (lv_at hl 1 rfl) ?_
        obtain ⟨fs_20, a_21, q1, q2, h⟩ := h
        refine z_get C hR q1 rfl (ci := 8) rfl in_X8 2 (by decide) q1438 (fun _ h => h) q2 dX8_answerFor_106 ?_
        refine z_callV C hR hS hl (n := 0) (C1 := RX9) (T := TX9) (N := 4) (ci := 9) (y := yX9_fill) (bytes := cX9_fill) (maxL := 4) (rt := none) (As := []) (rest := []) h.1 rfl (lw_V q469 q470 q471 q108 q472) hdV_X9_fill (by decide) rfl rfl (Nat.le_of_ble_eq_true rfl) dX8_answerFor_109 h.2 (fun r g_22 hk_ => ?_) (fun x g1 h => z_out C hQ h)
        clear h; obtain ⟨rfl, h⟩ := hk_
        show GW X E 8 g_22 112 [(7, .int t0), (0, .ref a0), (1, .ref a1), (2, .ref a2), (3, .int x3), (4, .int x4), (5, .int x5), (6, .int x6)] []
        intro H locs ls hR hS hl
        refine lv_iload C.x C.b dX8_answerFor_112 (lv_at hl 5 rfl) ?_
        refine lv_aload_n C.x C.b dX8_answerFor_114 rfl (lv_at hl 1 rfl) ?_
        obtain ⟨fs_23, a_24, q1, q2, h⟩ := h
        refine z_get C hR q1 rfl (ci := 8) rfl in_X8 2 (by decide) q1438 (fun _ h => h) q2 dX8_answerFor_115 ?_
        refine lv_aload_n C.x C.b dX8_answerFor_118 rfl (lv_at hl 1 rfl) ?_
        obtain ⟨fs_25, a_26, q1, q2, h⟩ := h
        refine z_get C hR q1 rfl (ci := 8) rfl in_X8 0 (by decide) q1434 (fun _ h => h) q2 dX8_answerFor_119 ?_
        refine lv_aload_n C.x C.b dX8_answerFor_122 rfl (lv_at hl 1 rfl) ?_
        obtain ⟨fs_27, a_28, q1, q2, h⟩ := h
        refine z_get C hR q1 rfl (ci := 8) rfl in_X8 2 (by decide) q1438 (fun _ h => h) q2 dX8_answerFor_123 ?_
        obtain ⟨fs_29, a_30, q1, q2, h⟩ := h
        refine z_getN C hR q1 rfl (ci := 9) rfl in_X9 0 (by decide) q1420 (fun _ h => h) q2 dX8_answerFor_126 ?_
        refine lv_aload_n C.x C.b dX8_answerFor_129 rfl (lv_at hl 2 rfl) ?_
        refine z_callF C hR hS hl (n := 1) (C1 := RJ2) (T := TJ2) (N := 3) (ci := 0) (y := yJ2_indexOf) (bytes := cJ2_indexOf) (maxL := 2) (rt := (some .int)) (As := [.ref a1]) (rest := [.ref a_26, .ref a_24, .int x4]) (x := ⟨"java/util/List", "indexOf", "(Ljava/lang/Object;)I"⟩) h.1 rfl (lw_F q529 q532 q534 q76 q536) ⟨C.ok.2.1 _ q531, C.ok.2.1 _ q530, C.ok.2.1 _ q535, C.ok.2.1 _ q533, C.ok.2.1 _ q174⟩ hdF_J2_indexOf (by decide) rfl rfl (Nat.le_of_ble_eq_true rfl) dX8_answerFor_130 h.2 (fun r g_31 hk_ => ?_) (fun x g1 h => z_out C hQ h)
        clear h; obtain ⟨v_32, rfl, h⟩ := hk_
        show GW X E 8 g_31 135 [(7, .int t0), (0, .ref a0), (1, .ref a1), (2, .ref a2), (3, .int x3), (4, .int x4), (5, .int x5), (6, .int x6)] [.int v_32, .ref a_26, .ref a_24, .int x4]
        intro H locs ls hR hS hl
        refine z_callV C hR hS hl (n := 2) (C1 := RX9) (T := TX9) (N := 4) (ci := 9) (y := yX9_at) (bytes := cX9_at) (maxL := 3) (rt := (some .int)) (As := [.ref a_26, .int v_32]) (rest := [.int x4]) h.1 rfl (lw_V q581 q489 q490 q108 q491) hdV_X9_at (by decide) rfl rfl (Nat.le_of_ble_eq_true rfl) dX8_answerFor_135 h.2 (fun r g_33 hk_ => ?_) (fun x g1 h => z_out C hQ h)
        clear h; obtain ⟨v_34, rfl, h⟩ := hk_
        show GW X E 8 g_33 138 [(7, .int t0), (0, .ref a0), (1, .ref a1), (2, .ref a2), (3, .int x3), (4, .int x4), (5, .int x5), (6, .int x6)] [.int v_34, .int x4]
        intro H locs ls hR hS hl
        refine z_callSN C hR hS hl (n := 2) (y := yX1_and) (bytes := cX1_and) (maxL := 2) (rt := (some .int)) (As := [.int x4, .int v_34]) (rest := []) (lw_meth q497) (C.nestM q582) (C.ts _ q73) (C.ts _ q496) hdS_X1_and (by decide) rfl rfl (Nat.le_of_ble_eq_true rfl) dX8_answerFor_138 h (fun r g_35 hk_ => ?_) (fun x g1 h => z_out C hQ h)
        clear h; obtain ⟨v_36, rfl, h⟩ := hk_
        show GW X E 8 g_35 141 [(7, .int t0), (0, .ref a0), (1, .ref a1), (2, .ref a2), (3, .int x3), (4, .int x4), (5, .int x5), (6, .int x6)] [.int v_36]
        intro H locs ls hR hS hl
        refine lv_istore (lv' := [(4, .int v_36), (7, .int t0), (0, .ref a0), (1, .ref a1), (2, .ref a2), (3, .int x3), (5, .int x5), (6, .int x6)]) C.x C.b dX8_answerFor_141 hl (by decide) rfl (fun ls hl => ?_)
        refine lv_iinc (v := x6 + 1) (lv' := [(6, .int (x6 + 1)), (4, .int v_36), (7, .int t0), (0, .ref a0), (1, .ref a1), (2, .ref a2), (3, .int x3), (5, .int x5)]) C.x C.b dX8_answerFor_143 hl (k := 7) rfl rfl (by decide) rfl (fun ls hl => ?_)
        refine lv_goto (tgt := 15) C.x C.b dX8_answerFor_146 (by decide) ?_
        exact h H locs ls hR hS (lv_sub hl [3, 4, 5, 6, 1, 7, 0] rfl)
    · have h := h2 c; clear h1 h2
      refine lv_iload C.x C.b dX8_answerFor_92 (lv_at hl 7 rfl) ?_
      refine lv_goto (tgt := 98) C.x C.b dX8_answerFor_94 (by decide) ?_
      refine z_callV C hR hS hl (n := 2) (C1 := RX9) (T := TX9) (N := 4) (ci := 9) (y := yX9_lay) (bytes := cX9_lay) (maxL := 5) (rt := none) (As := [.ref a2, .int x6]) (rest := []) h.1 rfl (lw_V q456 q457 q458 q108 q459) hdV_X9_lay (by decide) rfl rfl (Nat.le_of_ble_eq_true rfl) dX8_answerFor_98 h.2 (fun r g_37 hk_ => ?_) (fun x g1 h => z_out C hQ h)
      clear h; obtain ⟨rfl, h⟩ := hk_
      show GW X E 8 g_37 101 [(7, .int t0), (0, .ref a0), (1, .ref a1), (2, .ref a2), (3, .int x3), (4, .int x4), (5, .int x5), (6, .int x6)] []
      intro H locs ls hR hS hl
      refine lv_iload_n C.x C.b dX8_answerFor_101 rfl (lv_at hl 4 rfl) ?_
      obtain ⟨h1, h2⟩ := h
      refine lv_if_ne (tgt := 112) C.x C.b dX8_answerFor_102 (by decide) (fun c => ?_) (fun c => ?_)
      · have h := h1 c; clear h1 h2
        refine lv_iload C.x C.b dX8_answerFor_112 (lv_at hl 5 rfl) ?_
        refine lv_aload_n C.x C.b dX8_answerFor_114 rfl (lv_at hl 1 rfl) ?_
        obtain ⟨fs_38, a_39, q1, q2, h⟩ := h
        refine z_get C hR q1 rfl (ci := 8) rfl in_X8 2 (by decide) q1438 (fun _ h => h) q2 dX8_answerFor_115 ?_
        refine lv_aload_n C.x C.b dX8_answerFor_118 rfl (lv_at hl 1 rfl) ?_
        obtain ⟨fs_40, a_41, q1, q2, h⟩ := h
        refine z_get C hR q1 rfl (ci := 8) rfl in_X8 0 (by decide) q1434 (fun _ h => h) q2 dX8_answerFor_119 ?_
        refine lv_aload_n C.x C.b dX8_answerFor_122 rfl (lv_at hl 1 rfl) ?_
        obtain ⟨fs_42, a_43, q1, q2, h⟩ := h
        refine z_get C hR q1 rfl (ci := 8) rfl in_X8 2 (by decide) q1438 (fun _ h => h) q2 dX8_answerFor_123 ?_
        obtain ⟨fs_44, a_45, q1, q2, h⟩ := h
        refine z_getN C hR q1 rfl (ci := 9) rfl in_X9 0 (by decide) q1420 (fun _ h => h) q2 dX8_answerFor_126 ?_
        refine lv_aload_n C.x C.b dX8_answerFor_129 rfl (lv_at hl 2 rfl) ?_
        refine z_callF C hR hS hl (n := 1) (C1 := RJ2) (T := TJ2) (N := 3) (ci := 0) (y := yJ2_indexOf) (bytes := cJ2_indexOf) (maxL := 2) (rt := (some .int)) (As := [.ref a1]) (rest := [.ref a_41, .ref a_39, .int x4]) (x := ⟨"java/util/List", "indexOf", "(Ljava/lang/Object;)I"⟩) h.1 rfl (lw_F q529 q532 q534 q76 q536) ⟨C.ok.2.1 _ q531, C.ok.2.1 _ q530, C.ok.2.1 _ q535, C.ok.2.1 _ q533, C.ok.2.1 _ q174⟩ hdF_J2_indexOf (by decide) rfl rfl (Nat.le_of_ble_eq_true rfl) dX8_answerFor_130 h.2 (fun r g_46 hk_ => ?_) (fun x g1 h => z_out C hQ h)
        clear h; obtain ⟨v_47, rfl, h⟩ := hk_
        show GW X E 8 g_46 135 [(7, .int t0), (0, .ref a0), (1, .ref a1), (2, .ref a2), (3, .int x3), (4, .int x4), (5, .int x5), (6, .int x6)] [.int v_47, .ref a_41, .ref a_39, .int x4]
        intro H locs ls hR hS hl
        refine z_callV C hR hS hl (n := 2) (C1 := RX9) (T := TX9) (N := 4) (ci := 9) (y := yX9_at) (bytes := cX9_at) (maxL := 3) (rt := (some .int)) (As := [.ref a_41, .int v_47]) (rest := [.int x4]) h.1 rfl (lw_V q581 q489 q490 q108 q491) hdV_X9_at (by decide) rfl rfl (Nat.le_of_ble_eq_true rfl) dX8_answerFor_135 h.2 (fun r g_48 hk_ => ?_) (fun x g1 h => z_out C hQ h)
        clear h; obtain ⟨v_49, rfl, h⟩ := hk_
        show GW X E 8 g_48 138 [(7, .int t0), (0, .ref a0), (1, .ref a1), (2, .ref a2), (3, .int x3), (4, .int x4), (5, .int x5), (6, .int x6)] [.int v_49, .int x4]
        intro H locs ls hR hS hl
        refine z_callSN C hR hS hl (n := 2) (y := yX1_and) (bytes := cX1_and) (maxL := 2) (rt := (some .int)) (As := [.int x4, .int v_49]) (rest := []) (lw_meth q497) (C.nestM q582) (C.ts _ q73) (C.ts _ q496) hdS_X1_and (by decide) rfl rfl (Nat.le_of_ble_eq_true rfl) dX8_answerFor_138 h (fun r g_50 hk_ => ?_) (fun x g1 h => z_out C hQ h)
        clear h; obtain ⟨v_51, rfl, h⟩ := hk_
        show GW X E 8 g_50 141 [(7, .int t0), (0, .ref a0), (1, .ref a1), (2, .ref a2), (3, .int x3), (4, .int x4), (5, .int x5), (6, .int x6)] [.int v_51]
        intro H locs ls hR hS hl
        refine lv_istore (lv' := [(4, .int v_51), (7, .int t0), (0, .ref a0), (1, .ref a1), (2, .ref a2), (3, .int x3), (5, .int x5), (6, .int x6)]) C.x C.b dX8_answerFor_141 hl (by decide) rfl (fun ls hl => ?_)
        refine lv_iinc (v := x6 + 1) (lv' := [(6, .int (x6 + 1)), (4, .int v_51), (7, .int t0), (0, .ref a0), (1, .ref a1), (2, .ref a2), (3, .int x3), (5, .int x5)]) C.x C.b dX8_answerFor_143 hl (k := 7) rfl rfl (by decide) rfl (fun ls hl => ?_)
        refine lv_goto (tgt := 15) C.x C.b dX8_answerFor_146 (by decide) ?_
        exact h H locs ls hR hS (lv_sub hl [3, 4, 5, 6, 1, 7, 0] rfl)
      · have h := h2 c; clear h1 h2
        refine lv_aload_n C.x C.b dX8_answerFor_105 rfl (lv_at hl 1 rfl) ?_
        obtain ⟨fs_52, a_53, q1, q2, h⟩ := h
        refine z_get C hR q1 rfl (ci := 8) rfl in_X8 2 (by decide) q1438 (fun _ h => h) q2 dX8_answerFor_106 ?_
        refine z_callV C hR hS hl (n := 0) (C1 := RX9) (T := TX9) (N := 4) (ci := 9) (y := yX9_fill) (bytes := cX9_fill) (maxL := 4) (rt := none) (As := []) (rest := []) h.1 rfl (lw_V q469 q470 q471 q108 q472) hdV_X9_fill (by decide) rfl rfl (Nat.le_of_ble_eq_true rfl) dX8_answerFor_109 h.2 (fun r g_54 hk_ => ?_) (fun x g1 h => z_out C hQ h)
        clear h; obtain ⟨rfl, h⟩ := hk_
        show GW X E 8 g_54 112 [(7, .int t0), (0, .ref a0), (1, .ref a1), (2, .ref a2), (3, .int x3), (4, .int x4), (5, .int x5), (6, .int x6)] []
        intro H locs ls hR hS hl
        refine lv_iload C.x C.b dX8_answerFor_112 (lv_at hl 5 rfl) ?_
        refine lv_aload_n C.x C.b dX8_answerFor_114 rfl (lv_at hl 1 rfl) ?_
        obtain ⟨fs_55, a_56, q1, q2, h⟩ := h
        refine z_get C hR q1 rfl (ci := 8) rfl in_X8 2 (by decide) q1438 (fun _ h => h) q2 dX8_answerFor_115 ?_
        refine lv_aload_n C.x C.b dX8_answerFor_118 rfl (lv_at hl 1 rfl) ?_
        obtain ⟨fs_57, a_58, q1, q2, h⟩ := h
        refine z_get C hR q1 rfl (ci := 8) rfl in_X8 0 (by decide) q1434 (fun _ h => h) q2 dX8_answerFor_119 ?_
        refine lv_aload_n C.x C.b dX8_answerFor_122 rfl (lv_at hl 1 rfl) ?_
        obtain ⟨fs_59, a_60, q1, q2, h⟩ := h
        refine z_get C hR q1 rfl (ci := 8) rfl in_X8 2 (by decide) q1438 (fun _ h => h) q2 dX8_answerFor_123 ?_
        obtain ⟨fs_61, a_62, q1, q2, h⟩ := h
        refine z_getN C hR q1 rfl (ci := 9) rfl in_X9 0 (by decide) q1420 (fun _ h => h) q2 dX8_answerFor_126 ?_
        refine lv_aload_n C.x C.b dX8_answerFor_129 rfl (lv_at hl 2 rfl) ?_
        refine z_callF C hR hS hl (n := 1) (C1 := RJ2) (T := TJ2) (N := 3) (ci := 0) (y := yJ2_indexOf) (bytes := cJ2_indexOf) (maxL := 2) (rt := (some .int)) (As := [.ref a1]) (rest := [.ref a_58, .ref a_56, .int x4]) (x := ⟨"java/util/List", "indexOf", "(Ljava/lang/Object;)I"⟩) h.1 rfl (lw_F q529 q532 q534 q76 q536) ⟨C.ok.2.1 _ q531, C.ok.2.1 _ q530, C.ok.2.1 _ q535, C.ok.2.1 _ q533, C.ok.2.1 _ q174⟩ hdF_J2_indexOf (by decide) rfl rfl (Nat.le_of_ble_eq_true rfl) dX8_answerFor_130 h.2 (fun r g_63 hk_ => ?_) (fun x g1 h => z_out C hQ h)
        clear h; obtain ⟨v_64, rfl, h⟩ := hk_
        show GW X E 8 g_63 135 [(7, .int t0), (0, .ref a0), (1, .ref a1), (2, .ref a2), (3, .int x3), (4, .int x4), (5, .int x5), (6, .int x6)] [.int v_64, .ref a_58, .ref a_56, .int x4]
        intro H locs ls hR hS hl
        refine z_callV C hR hS hl (n := 2) (C1 := RX9) (T := TX9) (N := 4) (ci := 9) (y := yX9_at) (bytes := cX9_at) (maxL := 3) (rt := (some .int)) (As := [.ref a_58, .int v_64]) (rest := [.int x4]) h.1 rfl (lw_V q581 q489 q490 q108 q491) hdV_X9_at (by decide) rfl rfl (Nat.le_of_ble_eq_true rfl) dX8_answerFor_135 h.2 (fun r g_65 hk_ => ?_) (fun x g1 h => z_out C hQ h)
        clear h; obtain ⟨v_66, rfl, h⟩ := hk_
        show GW X E 8 g_65 138 [(7, .int t0), (0, .ref a0), (1, .ref a1), (2, .ref a2), (3, .int x3), (4, .int x4), (5, .int x5), (6, .int x6)] [.int v_66, .int x4]
        intro H locs ls hR hS hl
        refine z_callSN C hR hS hl (n := 2) (y := yX1_and) (bytes := cX1_and) (maxL := 2) (rt := (some .int)) (As := [.int x4, .int v_66]) (rest := []) (lw_meth q497) (C.nestM q582) (C.ts _ q73) (C.ts _ q496) hdS_X1_and (by decide) rfl rfl (Nat.le_of_ble_eq_true rfl) dX8_answerFor_138 h (fun r g_67 hk_ => ?_) (fun x g1 h => z_out C hQ h)
        clear h; obtain ⟨v_68, rfl, h⟩ := hk_
        show GW X E 8 g_67 141 [(7, .int t0), (0, .ref a0), (1, .ref a1), (2, .ref a2), (3, .int x3), (4, .int x4), (5, .int x5), (6, .int x6)] [.int v_68]
        intro H locs ls hR hS hl
        refine lv_istore (lv' := [(4, .int v_68), (7, .int t0), (0, .ref a0), (1, .ref a1), (2, .ref a2), (3, .int x3), (5, .int x5), (6, .int x6)]) C.x C.b dX8_answerFor_141 hl (by decide) rfl (fun ls hl => ?_)
        refine lv_iinc (v := x6 + 1) (lv' := [(6, .int (x6 + 1)), (4, .int v_68), (7, .int t0), (0, .ref a0), (1, .ref a1), (2, .ref a2), (3, .int x3), (5, .int x5)]) C.x C.b dX8_answerFor_143 hl (k := 7) rfl rfl (by decide) rfl (fun ls hl => ?_)
        refine lv_goto (tgt := 15) C.x C.b dX8_answerFor_146 (by decide) ?_
        exact h H locs ls hR hS (lv_sub hl [3, 4, 5, 6, 1, 7, 0] rfl)
set_option maxHeartbeats 4000000 in
theorem mX8_answerFor {X : zX} {d : Nat} {g : zG} {K : Option Value → zG → Prop} {KX : String → zG → Prop} (hok : zOk X) (a0 : Nat) (a1 : Nat) (a2 : Nat) (x3 : Int32) (h : ∀ E : zM, zC X (d + 1) E RX8 cX8_answerFor 8 (some .int) "answerFor" → zQ X E K KX → ∃ (fs_1 : List Value) (a_2 : Nat), zGo g 8 a0 = some fs_1 ∧ fs_1[7]? = some (.ref a_2) ∧ zIs g 1 a_2 ∧ zCal X d yX1_ids wX1_ids [.ref a_2] g (fun r g_3 => ∃ v_4 : Int32, r = some (.int v_4) ∧ GW X E 8 g_3 15 [(0, .ref a0), (1, .ref a1), (2, .ref a2), (3, .int x3), (4, .int 1), (5, .int v_4), (6, .int 0)] []) KX) : zCal X (d + 1) yX8_answerFor wX8_answerFor [.ref a0, .ref a1, .ref a2, .int x3] g K KX := by
  refine z_enter hok pn_X8 (Nat.le_of_ble_eq_true rfl) (fun E C hQ => ?_)
  have C : zC X (d + 1) E RX8 cX8_answerFor 8 (some .int) "answerFor" := C
  have h := h E C hQ
  show GW X E 8 g 0 [(0, .ref a0), (1, .ref a1), (2, .ref a2), (3, .int x3)] []
  intro H locs ls hR hS hl
  refine lv_iconst (v := 1) C.x C.b dX8_answerFor_0 (by decide) ?_
  refine lv_istore (lv' := [(4, .int 1), (0, .ref a0), (1, .ref a1), (2, .ref a2), (3, .int x3)]) C.x C.b dX8_answerFor_1 hl (by decide) rfl (fun ls hl => ?_)
  refine lv_aload_n C.x C.b dX8_answerFor_3 rfl (lv_at hl 1 rfl) ?_
  obtain ⟨fs_1, a_2, q1, q2, h⟩ := h
  refine z_get C hR q1 rfl (ci := 8) rfl in_X8 7 (by decide) q1446 (fun _ h => h) q2 dX8_answerFor_4 ?_
  refine z_callVN C hR hS hl (n := 0) (C1 := RX1) (T := TX1) (N := 12) (ci := 1) (y := yX1_ids) (bytes := cX1_ids) (maxL := 3) (rt := (some .int)) (As := []) (rest := []) h.1 rfl (lw_meth q454) (C.nestM q451) (C.ts _ q73) (C.ts _ q453) (C.ts _ qs4) hdS_X1_ids (by decide) rfl rfl (Nat.le_of_ble_eq_true rfl) dX8_answerFor_7 h.2 (fun r g_3 hk_ => ?_) (fun x g1 h => z_out C hQ h)
  clear h; obtain ⟨v_4, rfl, h⟩ := hk_
  show GW X E 8 g_3 10 [(4, .int 1), (0, .ref a0), (1, .ref a1), (2, .ref a2), (3, .int x3)] [.int v_4]
  intro H locs ls hR hS hl
  refine lv_istore (lv' := [(5, .int v_4), (4, .int 1), (0, .ref a0), (1, .ref a1), (2, .ref a2), (3, .int x3)]) C.x C.b dX8_answerFor_10 hl (by decide) rfl (fun ls hl => ?_)
  refine lv_iconst (v := 0) C.x C.b dX8_answerFor_12 (by decide) ?_
  refine lv_istore (lv' := [(6, .int 0), (5, .int v_4), (4, .int 1), (0, .ref a0), (1, .ref a1), (2, .ref a2), (3, .int x3)]) C.x C.b dX8_answerFor_13 hl (by decide) rfl (fun ls hl => ?_)
  exact h H locs ls hR hS (lv_sub hl [3, 4, 5, 6, 2, 1, 0] rfl)
set_option maxHeartbeats 4000000 in
theorem bX8_meet_18 {X : zX} {d : Nat} {E : zM} {K : Option Value → zG → Prop} {KX : String → zG → Prop} (C : zC X (d + 1) E RX8 cX8_meet 5 none "meet") (hQ : zQ X E K KX) (g : zG) (a0 : Nat) (x3 : Int32) (h : ∃ (fs_1 : List Value) (a_2 : Nat), zGo g 8 a0 = some fs_1 ∧ fs_1[2]? = some (.ref a_2) ∧ ∃ (fs_3 : List Value) (a_4 : Nat), zGo g 9 a_2 = some fs_3 ∧ fs_3[0]? = some (.ref a_4) ∧ zIs g 0 a_4 ∧ zCal X d yJ2_size wJ2_size [.ref a_4] g (fun r g_5 => ∃ v_6 : Int32, r = some (.int v_6) ∧ (v_6 ≤ x3 → K none g_5) ∧ (¬ v_6 ≤ x3 → ∃ (fs_7 : List Value) (a_8 : Nat), zGo g_5 8 a0 = some fs_7 ∧ fs_7[2]? = some (.ref a_8) ∧ ∃ (fs_9 : List Value) (a_10 : Nat), zGo g_5 9 a_8 = some fs_9 ∧ fs_9[0]? = some (.ref a_10) ∧ zIs g_5 0 a_10 ∧ zCal X d yJ2_get wJ2_get [.ref a_10, .int x3] g_5 (fun r g_11 => ∃ r_12 : Option Nat, r = some (va_rf r_12) ∧ ∃ a_13 : Nat, r_12 = some a_13 ∧ zIs g_11 4 a_13 ∧ ∃ (fs_14 : List Value) (v_15 : Int32), zGo g_11 4 a_13 = some fs_14 ∧ fs_14[0]? = some (.int v_15) ∧ ∃ (fs_16 : List Value) (a_17 : Nat), zGo g_11 8 a0 = some fs_16 ∧ fs_16[7]? = some (.ref a_17) ∧ ∃ (fs_18 : List Value) (a_19 : Nat), zGo g_11 1 a_17 = some fs_18 ∧ fs_18[10]? = some (.ref a_19) ∧ ∃ (fs_20 : List Value) (a_21 : Nat), zGo g_11 8 a0 = some fs_20 ∧ fs_20[7]? = some (.ref a_21) ∧ ∃ (fs_22 : List Value) (a_23 : Nat), zGo g_11 1 a_21 = some fs_22 ∧ fs_22[10]? = some (.ref a_23) ∧ ∃ (n_24 : Nat) (f_25 : Nat → Int32), zGi g_11 51 a_23 = some (n_24, f_25) ∧ vp_in v_15 n_24 ∧ ∀ v_26 : Int32, v_26 = f_25 v_15.toNatClampNeg → ∃ (fs_27 : List Value) (a_28 : Nat), zGo g_11 8 a0 = some fs_27 ∧ fs_27[2]? = some (.ref a_28) ∧ ∃ (fs_29 : List Value) (a_30 : Nat), zGo g_11 9 a_28 = some fs_29 ∧ fs_29[2]? = some (.ref a_30) ∧ ∃ (fs_31 : List Value) (a_32 : Nat), zGo g_11 8 a0 = some fs_31 ∧ fs_31[0]? = some (.ref a_32) ∧ ∃ (k_34 : Nat) (fs_33 : List Value) (v_35 : Int32), zkc k_34 = 7 ∧ zGo g_11 k_34 a_32 = some fs_33 ∧ fs_33[6]? = some (.int v_35) ∧ ∃ (t_36 n_37 : Nat) (f_38 : Nat → Option Nat), zGq g_11 t_36 a_30 = some (n_37, f_38) ∧ vp_in v_35 n_37 ∧ ∀ r_39 : Option Nat, r_39 = f_38 v_35.toNatClampNeg → ∃ a_40 : Nat, r_39 = some a_40 ∧ ∃ (t_49 : Nat) (n_41 : Nat) (f_42 : Nat → Int32), zGi g_11 t_49 a_40 = some (n_41, f_42) ∧ t_49 < 100 ∧ vp_in x3 n_41 ∧ ∀ v_43 : Int32, v_43 = f_42 x3.toNatClampNeg → zCal X d yX1_and wX1_and [.int v_26, .int v_43] g_11 (fun r g_44 => ∃ v_45 : Int32, r = some (.int v_45) ∧ ∃ (n_46 : Nat) (f_47 : Nat → Int32), zGi g_44 51 a_19 = some (n_46, f_47) ∧ vp_in v_15 n_46 ∧ ∀ g_48 : zG, g_48 = zSi g_44 51 a_19 n_46 (upd f_47 v_15.toNatClampNeg v_45) → GW X E 5 g_48 18 [(0, .ref a0), (3, .int (x3 + 1))] []) KX) KX)) KX) : GW X E 5 g 18 [(0, .ref a0), (3, .int x3)] [] := by
  intro H locs ls hR hS hl
  refine lv_iload_n C.x C.b dX8_meet_18 rfl (lv_at hl 1 rfl) ?_
  refine lv_aload_n C.x C.b dX8_meet_19 rfl (lv_at hl 0 rfl) ?_
  obtain ⟨fs_1, a_2, q1, q2, h⟩ := h
  refine z_get C hR q1 rfl (ci := 8) rfl in_X8 2 (by decide) q1438 (fun _ h => h) q2 dX8_meet_20 ?_
  obtain ⟨fs_3, a_4, q1, q2, h⟩ := h
  refine z_getN C hR q1 rfl (ci := 9) rfl in_X9 0 (by decide) q1420 (fun _ h => h) q2 dX8_meet_23 ?_
  refine z_callF C hR hS hl (n := 0) (C1 := RJ2) (T := TJ2) (N := 3) (ci := 0) (y := yJ2_size) (bytes := cJ2_size) (maxL := 1) (rt := (some .int)) (As := []) (rest := [.int x3]) (x := ⟨"java/util/List", "size", "()I"⟩) h.1 rfl (lw_F q1131 q294 q296 q76 q298) ⟨C.ok.2.1 _ q293, C.ok.2.1 _ q292, C.ok.2.1 _ q297, C.ok.2.1 _ q295, C.ok.2.1 _ q174⟩ hdF_J2_size (by decide) rfl rfl (Nat.le_of_ble_eq_true rfl) dX8_meet_26 h.2 (fun r g_5 hk_ => ?_) (fun x g1 h => z_out C hQ h)
  clear h; obtain ⟨v_6, rfl, h⟩ := hk_
  show GW X E 5 g_5 31 [(0, .ref a0), (3, .int x3)] [.int v_6, .int x3]
  intro H locs ls hR hS hl
  obtain ⟨h1, h2⟩ := h
  refine lv_icmp_ge (tgt := 101) C.x C.b dX8_meet_31 (by decide) (fun c => ?_) (fun c => ?_)
  · have h := h1 c; clear h1 h2
    exact z_vret C hQ dX8_meet_101 h H locs ls hR hS hl
  · have h := h2 c; clear h1 h2
    refine lv_aload_n C.x C.b dX8_meet_34 rfl (lv_at hl 0 rfl) ?_
    obtain ⟨fs_7, a_8, q1, q2, h⟩ := h
    refine z_get C hR q1 rfl (ci := 8) rfl in_X8 2 (by decide) q1438 (fun _ h => h) q2 dX8_meet_35 ?_
    obtain ⟨fs_9, a_10, q1, q2, h⟩ := h
    refine z_getN C hR q1 rfl (ci := 9) rfl in_X9 0 (by decide) q1420 (fun _ h => h) q2 dX8_meet_38 ?_
    refine lv_iload_n C.x C.b dX8_meet_41 rfl (lv_at hl 1 rfl) ?_
    refine z_callF C hR hS hl (n := 1) (C1 := RJ2) (T := TJ2) (N := 3) (ci := 0) (y := yJ2_get) (bytes := cJ2_get) (maxL := 2) (rt := (some (.object "java/lang/Object"))) (As := [.int x3]) (rest := []) (x := ⟨"java/util/List", "get", "(I)Ljava/lang/Object;"⟩) h.1 rfl (lw_F q1133 q381 q383 q76 q385) ⟨C.ok.2.1 _ q380, C.ok.2.1 _ q379, C.ok.2.1 _ q384, C.ok.2.1 _ q382, C.ok.2.1 _ q174⟩ hdF_J2_get (by decide) rfl rfl (Nat.le_of_ble_eq_true rfl) dX8_meet_42 h.2 (fun r g_11 hk_ => ?_) (fun x g1 h => z_out C hQ h)
    clear h; obtain ⟨r_12, rfl, h⟩ := hk_
    show GW X E 5 g_11 47 [(0, .ref a0), (3, .int x3)] [va_rf r_12]
    intro H locs ls hR hS hl
    obtain ⟨a_13, e_, h⟩ := h; subst e_
    have hl : lv_has ls 5 [(0, .ref a0), (3, .int x3)] := by assumption
    show zV X E H locs (F0 (zm E) 47 ls [.ref a_13])
    refine z_castS C hR (ci := 4) (C1 := RX4) (T := TX4) (N := 7) h.1 rfl q1134 dX8_meet_47 ?_
    have h := h.2
    obtain ⟨fs_14, v_15, q1, q2, h⟩ := h
    refine z_getN C hR q1 rfl (ci := 4) rfl in_X4 0 (by decide) q783 (fun _ h => h) q2 dX8_meet_50 ?_
    refine lv_istore (lv' := [(4, .int v_15), (0, .ref a0), (3, .int x3)]) C.x C.b dX8_meet_53 hl (by decide) rfl (fun ls hl => ?_)
    refine lv_aload_n C.x C.b dX8_meet_55 rfl (lv_at hl 1 rfl) ?_
    obtain ⟨fs_16, a_17, q1, q2, h⟩ := h
    refine z_get C hR q1 rfl (ci := 8) rfl in_X8 7 (by decide) q1446 (fun _ h => h) q2 dX8_meet_56 ?_
    obtain ⟨fs_18, a_19, q1, q2, h⟩ := h
    refine z_getN C hR q1 rfl (ci := 1) rfl in_X1 10 (by decide) q258 (fun _ h => h) q2 dX8_meet_59 ?_
    refine lv_iload C.x C.b dX8_meet_62 (lv_at hl 0 rfl) ?_
    refine lv_aload_n C.x C.b dX8_meet_64 rfl (lv_at hl 1 rfl) ?_
    obtain ⟨fs_20, a_21, q1, q2, h⟩ := h
    refine z_get C hR q1 rfl (ci := 8) rfl in_X8 7 (by decide) q1446 (fun _ h => h) q2 dX8_meet_65 ?_
    obtain ⟨fs_22, a_23, q1, q2, h⟩ := h
    refine z_getN C hR q1 rfl (ci := 1) rfl in_X1 10 (by decide) q258 (fun _ h => h) q2 dX8_meet_68 ?_
    refine lv_iload C.x C.b dX8_meet_71 (lv_at hl 0 rfl) ?_
    obtain ⟨n_24, f_25, q1, q2, h⟩ := h
    refine z_iald C hR q1 (by decide) q2 dX8_meet_73 ?_
    have h := h _ rfl
    generalize f_25 v_15.toNatClampNeg = v_26 at h ⊢
    refine lv_aload_n C.x C.b dX8_meet_74 rfl (lv_at hl 1 rfl) ?_
    obtain ⟨fs_27, a_28, q1, q2, h⟩ := h
    refine z_get C hR q1 rfl (ci := 8) rfl in_X8 2 (by decide) q1438 (fun _ h => h) q2 dX8_meet_75 ?_
    obtain ⟨fs_29, a_30, q1, q2, h⟩ := h
    refine z_getN C hR q1 rfl (ci := 9) rfl in_X9 2 (by decide) q1423 (fun _ h => h) q2 dX8_meet_78 ?_
    refine lv_aload_n C.x C.b dX8_meet_81 rfl (lv_at hl 1 rfl) ?_
    obtain ⟨fs_31, a_32, q1, q2, h⟩ := h
    refine z_get C hR q1 rfl (ci := 8) rfl in_X8 0 (by decide) q1434 (fun _ h => h) q2 dX8_meet_82 ?_
    obtain ⟨k_34, fs_33, v_35, q0, q1, q2, h⟩ := h
    refine z_getN C hR q1 q0 (ci := 7) rfl in_X7 6 (by decide) q1262 (fun _ h => h) q2 dX8_meet_85 ?_
    obtain ⟨t_36, n_37, f_38, q1, q2, h⟩ := h
    refine z_aald C hR q1 q2 dX8_meet_88 ?_
    have h := h _ rfl
    generalize f_38 v_35.toNatClampNeg = r_39 at h ⊢
    refine lv_iload_n C.x C.b dX8_meet_89 rfl (lv_at hl 2 rfl) ?_
    obtain ⟨a_40, e_, h⟩ := h; subst e_
    have hl : lv_has ls 5 [(4, .int v_15), (0, .ref a0), (3, .int x3)] := by assumption
    show zV X E H locs (F0 (zm E) 90 ls [.int x3, .ref a_40, .int v_26, .int v_15, .ref a_19])
    obtain ⟨t_49, n_41, f_42, q1, q0, q2, h⟩ := h
    refine z_iald C hR q1 q0 q2 dX8_meet_90 ?_
    have h := h _ rfl
    generalize f_42 x3.toNatClampNeg = v_43 at h ⊢
    refine z_callSN C hR hS hl (n := 2) (y := yX1_and) (bytes := cX1_and) (maxL := 2) (rt := (some .int)) (As := [.int v_26, .int v_43]) (rest := [.int v_15, .ref a_19]) (lw_meth q497) (C.nestM q582) (C.ts _ q73) (C.ts _ q496) hdS_X1_and (by decide) rfl rfl (Nat.le_of_ble_eq_true rfl) dX8_meet_91 h (fun r g_44 hk_ => ?_) (fun x g1 h => z_out C hQ h)
    clear h; obtain ⟨v_45, rfl, h⟩ := hk_
    show GW X E 5 g_44 94 [(4, .int v_15), (0, .ref a0), (3, .int x3)] [.int v_45, .int v_15, .ref a_19]
    intro H locs ls hR hS hl
    obtain ⟨n_46, f_47, q1, q2, h⟩ := h
    refine z_iast C hR hS q1 (by decide) q2 dX8_meet_94 (fun H locs hR hS => ?_)
    have h := h _ rfl
    generalize zSi g_44 51 a_19 n_46 (upd f_47 v_15.toNatClampNeg v_45) = g_48 at h hR
    refine lv_iinc (v := x3 + 1) (lv' := [(3, .int (x3 + 1)), (4, .int v_15), (0, .ref a0)]) C.x C.b dX8_meet_95 hl (k := 2) rfl rfl (by decide) rfl (fun ls hl => ?_)
    refine lv_goto (tgt := 18) C.x C.b dX8_meet_98 (by decide) ?_
    exact h H locs ls hR hS (lv_sub hl [2, 0] rfl)
set_option maxHeartbeats 4000000 in
theorem mX8_meet {X : zX} {d : Nat} {g : zG} {K : Option Value → zG → Prop} {KX : String → zG → Prop} (hok : zOk X) (a0 : Nat) (a1 : Nat) (x2 : Int32) (h : ∀ E : zM, zC X (d + 1) E RX8 cX8_meet 5 none "meet" → zQ X E K KX → ∃ (fs_1 : List Value) (a_2 : Nat), zGo g 8 a0 = some fs_1 ∧ fs_1[2]? = some (.ref a_2) ∧ zIs g 9 a_2 ∧ zCal X d yX9_lay wX9_lay [.ref a_2, .ref a1, .int x2] g (fun r g_3 => r = none ∧ ∃ (fs_4 : List Value) (a_5 : Nat), zGo g_3 8 a0 = some fs_4 ∧ fs_4[2]? = some (.ref a_5) ∧ zIs g_3 9 a_5 ∧ zCal X d yX9_fill wX9_fill [.ref a_5] g_3 (fun r g_6 => r = none ∧ GW X E 5 g_6 18 [(0, .ref a0), (3, .int 0)] []) KX) KX) : zCal X (d + 1) yX8_meet wX8_meet [.ref a0, .ref a1, .int x2] g K KX := by
  refine z_enter hok pn_X8 (Nat.le_of_ble_eq_true rfl) (fun E C hQ => ?_)
  have C : zC X (d + 1) E RX8 cX8_meet 5 none "meet" := C
  have h := h E C hQ
  show GW X E 5 g 0 [(0, .ref a0), (1, .ref a1), (2, .int x2)] []
  intro H locs ls hR hS hl
  refine lv_aload_n C.x C.b dX8_meet_0 rfl (lv_at hl 0 rfl) ?_
  obtain ⟨fs_1, a_2, q1, q2, h⟩ := h
  refine z_get C hR q1 rfl (ci := 8) rfl in_X8 2 (by decide) q1438 (fun _ h => h) q2 dX8_meet_1 ?_
  refine lv_aload_n C.x C.b dX8_meet_4 rfl (lv_at hl 1 rfl) ?_
  refine lv_iload_n C.x C.b dX8_meet_5 rfl (lv_at hl 2 rfl) ?_
  refine z_callV C hR hS hl (n := 2) (C1 := RX9) (T := TX9) (N := 4) (ci := 9) (y := yX9_lay) (bytes := cX9_lay) (maxL := 5) (rt := none) (As := [.ref a1, .int x2]) (rest := []) h.1 rfl (lw_V q456 q457 q458 q108 q459) hdV_X9_lay (by decide) rfl rfl (Nat.le_of_ble_eq_true rfl) dX8_meet_6 h.2 (fun r g_3 hk_ => ?_) (fun x g1 h => z_out C hQ h)
  clear h; obtain ⟨rfl, h⟩ := hk_
  show GW X E 5 g_3 9 [(0, .ref a0), (1, .ref a1), (2, .int x2)] []
  intro H locs ls hR hS hl
  refine lv_aload_n C.x C.b dX8_meet_9 rfl (lv_at hl 0 rfl) ?_
  obtain ⟨fs_4, a_5, q1, q2, h⟩ := h
  refine z_get C hR q1 rfl (ci := 8) rfl in_X8 2 (by decide) q1438 (fun _ h => h) q2 dX8_meet_10 ?_
  refine z_callV C hR hS hl (n := 0) (C1 := RX9) (T := TX9) (N := 4) (ci := 9) (y := yX9_fill) (bytes := cX9_fill) (maxL := 4) (rt := none) (As := []) (rest := []) h.1 rfl (lw_V q469 q470 q471 q108 q472) hdV_X9_fill (by decide) rfl rfl (Nat.le_of_ble_eq_true rfl) dX8_meet_13 h.2 (fun r g_6 hk_ => ?_) (fun x g1 h => z_out C hQ h)
  clear h; obtain ⟨rfl, h⟩ := hk_
  show GW X E 5 g_6 16 [(0, .ref a0), (1, .ref a1), (2, .int x2)] []
  intro H locs ls hR hS hl
  refine lv_iconst (v := 0) C.x C.b dX8_meet_16 (by decide) ?_
  refine lv_istore_n (lv' := [(3, .int 0), (0, .ref a0), (1, .ref a1), (2, .int x2)]) C.x C.b dX8_meet_17 rfl hl (by decide) rfl (fun ls hl => ?_)
  exact h H locs ls hR hS (lv_sub hl [1, 0] rfl)
theorem hdV_X8_meet : yX8_meet.cls = RX8 ∧ yX8_meet.cls ≠ "java/lang/invoke/MethodHandle" ∧ yX8_meet.cls ≠ "java/lang/invoke/VarHandle" ∧ (parseMethodDescriptor yX8_meet.desc).map (fun d => d.parameters.length) = some 2 := by decide +kernel
set_option maxHeartbeats 4000000 in
theorem bX8_answersIn_2 {X : zX} {d : Nat} {E : zM} {K : Option Value → zG → Prop} {KX : String → zG → Prop} (C : zC X (d + 1) E RX8 cX8_answersIn 4 none "answersIn") (hQ : zQ X E K KX) (g : zG) (a0 : Nat) (a1 : Nat) (x2 : Int32) (x3 : Int32) (h : (80 ≤ x3 → ∃ (fs_1 : List Value) (v_2 : Int32), zGo g 8 a0 = some fs_1 ∧ fs_1[3]? = some (.int v_2) ∧ (¬ v_2 = 0 → GW X E 4 g 39 [(0, .ref a0), (1, .ref a1), (2, .int x2), (3, .int 0)] []) ∧ (v_2 = 0 → zIs g 8 a0 ∧ zCal X d yX8_meet wX8_meet [.ref a0, .ref a1, .int (-1)] g (fun r g_3 => r = none ∧ GW X E 4 g_3 39 [(0, .ref a0), (1, .ref a1), (2, .int x2), (3, .int 0)] []) KX)) ∧ (¬ 80 ≤ x3 → ∃ (fs_4 : List Value) (a_5 : Nat), zGo g 8 a0 = some fs_4 ∧ fs_4[7]? = some (.ref a_5) ∧ ∃ (fs_6 : List Value) (a_7 : Nat), zGo g 1 a_5 = some fs_6 ∧ fs_6[10]? = some (.ref a_7) ∧ ∃ (n_8 : Nat) (f_9 : Nat → Int32), zGi g 51 a_7 = some (n_8, f_9) ∧ vp_in x3 n_8 ∧ ∀ g_10 : zG, g_10 = zSi g 51 a_7 n_8 (upd f_9 x3.toNatClampNeg 1) → GW X E 4 g_10 2 [(0, .ref a0), (1, .ref a1), (2, .int x2), (3, .int (x3 + 1))] [])) : GW X E 4 g 2 [(0, .ref a0), (1, .ref a1), (2, .int x2), (3, .int x3)] [] := by
  intro H locs ls hR hS hl
  refine lv_iload_n C.x C.b dX8_answersIn_2 rfl (lv_at hl 3 rfl) ?_
  refine lv_bipush (v := 80) C.x C.b dX8_answersIn_3 (by decide) ?_
  obtain ⟨h1, h2⟩ := h
  refine lv_icmp_ge (tgt := 24) C.x C.b dX8_answersIn_5 (by decide) (fun c => ?_) (fun c => ?_)
  · have h := h1 c; clear h1 h2
    refine lv_aload_n C.x C.b dX8_answersIn_24 rfl (lv_at hl 0 rfl) ?_
    obtain ⟨fs_1, v_2, q1, q2, h⟩ := h
    refine z_get C hR q1 rfl (ci := 8) rfl in_X8 3 (by decide) q1439 (fun _ h => h) q2 dX8_answersIn_25 ?_
    obtain ⟨h1, h2⟩ := h
    refine lv_if_ne (tgt := 37) C.x C.b dX8_answersIn_28 (by decide) (fun c => ?_) (fun c => ?_)
    · have h := h1 c; clear h1 h2
      refine lv_iconst (v := 0) C.x C.b dX8_answersIn_37 (by decide) ?_
      refine lv_istore_n (lv' := [(3, .int 0), (0, .ref a0), (1, .ref a1), (2, .int x2)]) C.x C.b dX8_answersIn_38 rfl hl (by decide) rfl (fun ls hl => ?_)
      exact h H locs ls hR hS (lv_sub hl [1, 2, 3, 0] rfl)
    · have h := h2 c; clear h1 h2
      refine lv_aload_n C.x C.b dX8_answersIn_31 rfl (lv_at hl 0 rfl) ?_
      refine lv_aload_n C.x C.b dX8_answersIn_32 rfl (lv_at hl 1 rfl) ?_
      refine lv_iconst (v := (-1)) C.x C.b dX8_answersIn_33 (by decide) ?_
      refine z_callV C hR hS hl (n := 2) (C1 := RX8) (T := TX8) (N := 8) (ci := 8) (y := yX8_meet) (bytes := cX8_meet) (maxL := 5) (rt := none) (As := [.ref a1, .int (-1)]) (rest := []) h.1 rfl (lw_V q1125 q1127 qs18 q107 q1129) hdV_X8_meet (by decide) rfl rfl (Nat.le_of_ble_eq_true rfl) dX8_answersIn_34 h.2 (fun r g_3 hk_ => ?_) (fun x g1 h => z_out C hQ h)
      clear h; obtain ⟨rfl, h⟩ := hk_
      show GW X E 4 g_3 37 [(0, .ref a0), (1, .ref a1), (2, .int x2), (3, .int x3)] []
      intro H locs ls hR hS hl
      refine lv_iconst (v := 0) C.x C.b dX8_answersIn_37 (by decide) ?_
      refine lv_istore_n (lv' := [(3, .int 0), (0, .ref a0), (1, .ref a1), (2, .int x2)]) C.x C.b dX8_answersIn_38 rfl hl (by decide) rfl (fun ls hl => ?_)
      exact h H locs ls hR hS (lv_sub hl [1, 2, 3, 0] rfl)
  · have h := h2 c; clear h1 h2
    refine lv_aload_n C.x C.b dX8_answersIn_8 rfl (lv_at hl 0 rfl) ?_
    obtain ⟨fs_4, a_5, q1, q2, h⟩ := h
    refine z_get C hR q1 rfl (ci := 8) rfl in_X8 7 (by decide) q1446 (fun _ h => h) q2 dX8_answersIn_9 ?_
    obtain ⟨fs_6, a_7, q1, q2, h⟩ := h
    refine z_getN C hR q1 rfl (ci := 1) rfl in_X1 10 (by decide) q258 (fun _ h => h) q2 dX8_answersIn_12 ?_
    refine lv_iload_n C.x C.b dX8_answersIn_15 rfl (lv_at hl 3 rfl) ?_
    refine lv_iconst (v := 1) C.x C.b dX8_answersIn_16 (by decide) ?_
    obtain ⟨n_8, f_9, q1, q2, h⟩ := h
    refine z_iast C hR hS q1 (by decide) q2 dX8_answersIn_17 (fun H locs hR hS => ?_)
    have h := h _ rfl
    generalize zSi g 51 a_7 n_8 (upd f_9 x3.toNatClampNeg 1) = g_10 at h hR
    refine lv_iinc (v := x3 + 1) (lv' := [(3, .int (x3 + 1)), (0, .ref a0), (1, .ref a1), (2, .int x2)]) C.x C.b dX8_answersIn_18 hl (k := 3) rfl rfl (by decide) rfl (fun ls hl => ?_)
    refine lv_goto (tgt := 2) C.x C.b dX8_answersIn_21 (by decide) ?_
    exact h H locs ls hR hS (lv_sub hl [1, 2, 3, 0] rfl)
set_option maxHeartbeats 4000000 in
theorem bX8_answersIn_39 {X : zX} {d : Nat} {E : zM} {K : Option Value → zG → Prop} {KX : String → zG → Prop} (C : zC X (d + 1) E RX8 cX8_answersIn 4 none "answersIn") (hQ : zQ X E K KX) (g : zG) (a0 : Nat) (a1 : Nat) (x2 : Int32) (x3 : Int32) (h : (10 ≤ x3 → K none g) ∧ (¬ 10 ≤ x3 → ∃ (fs_1 : List Value) (v_2 : Int32), zGo g 8 a0 = some fs_1 ∧ fs_1[3]? = some (.int v_2) ∧ (v_2 = 0 → K none g) ∧ (¬ v_2 = 0 → (¬ ((x2 >>> (x3 &&& 31)) &&& 1) = 1 → GW X E 4 g 39 [(0, .ref a0), (1, .ref a1), (2, .int x2), (3, .int (x3 + 1))] []) ∧ (((x2 >>> (x3 &&& 31)) &&& 1) = 1 → zIs g 8 a0 ∧ zCal X d yX8_meet wX8_meet [.ref a0, .ref a1, .int x3] g (fun r g_3 => r = none ∧ GW X E 4 g_3 39 [(0, .ref a0), (1, .ref a1), (2, .int x2), (3, .int (x3 + 1))] []) KX)))) : GW X E 4 g 39 [(0, .ref a0), (1, .ref a1), (2, .int x2), (3, .int x3)] [] := by
  intro H locs ls hR hS hl
  refine lv_iload_n C.x C.b dX8_answersIn_39 rfl (lv_at hl 3 rfl) ?_
  refine lv_bipush (v := 10) C.x C.b dX8_answersIn_40 (by decide) ?_
  obtain ⟨h1, h2⟩ := h
  refine lv_icmp_ge (tgt := 73) C.x C.b dX8_answersIn_42 (by decide) (fun c => ?_) (fun c => ?_)
  · have h := h1 c; clear h1 h2
    exact z_vret C hQ dX8_answersIn_73 h H locs ls hR hS hl
  · have h := h2 c; clear h1 h2
    refine lv_aload_n C.x C.b dX8_answersIn_45 rfl (lv_at hl 0 rfl) ?_
    obtain ⟨fs_1, v_2, q1, q2, h⟩ := h
    refine z_get C hR q1 rfl (ci := 8) rfl in_X8 3 (by decide) q1439 (fun _ h => h) q2 dX8_answersIn_46 ?_
    obtain ⟨h1, h2⟩ := h
    refine lv_if_eq (tgt := 73) C.x C.b dX8_answersIn_49 (by decide) (fun c => ?_) (fun c => ?_)
    · have h := h1 c; clear h1 h2
      exact z_vret C hQ dX8_answersIn_73 h H locs ls hR hS hl
    · have h := h2 c; clear h1 h2
      refine lv_iload_n C.x C.b dX8_answersIn_52 rfl (lv_at hl 2 rfl) ?_
      refine lv_iload_n C.x C.b dX8_answersIn_53 rfl (lv_at hl 3 rfl) ?_
      refine lv_ishr C.x C.b dX8_answersIn_54 ?_
      refine lv_iconst (v := 1) C.x C.b dX8_answersIn_55 (by decide) ?_
      refine lv_iand C.x C.b dX8_answersIn_56 ?_
      refine lv_iconst (v := 1) C.x C.b dX8_answersIn_57 (by decide) ?_
      obtain ⟨h1, h2⟩ := h
      refine lv_icmp_ne (tgt := 67) C.x C.b dX8_answersIn_58 (by decide) (fun c => ?_) (fun c => ?_)
      · have h := h1 c; clear h1 h2
        refine lv_iinc (v := x3 + 1) (lv' := [(3, .int (x3 + 1)), (0, .ref a0), (1, .ref a1), (2, .int x2)]) C.x C.b dX8_answersIn_67 hl (k := 3) rfl rfl (by decide) rfl (fun ls hl => ?_)
        refine lv_goto (tgt := 39) C.x C.b dX8_answersIn_70 (by decide) ?_
        exact h H locs ls hR hS (lv_sub hl [1, 2, 3, 0] rfl)
      · have h := h2 c; clear h1 h2
        refine lv_aload_n C.x C.b dX8_answersIn_61 rfl (lv_at hl 0 rfl) ?_
        refine lv_aload_n C.x C.b dX8_answersIn_62 rfl (lv_at hl 1 rfl) ?_
        refine lv_iload_n C.x C.b dX8_answersIn_63 rfl (lv_at hl 3 rfl) ?_
        refine z_callV C hR hS hl (n := 2) (C1 := RX8) (T := TX8) (N := 8) (ci := 8) (y := yX8_meet) (bytes := cX8_meet) (maxL := 5) (rt := none) (As := [.ref a1, .int x3]) (rest := []) h.1 rfl (lw_V q1125 q1127 qs18 q107 q1129) hdV_X8_meet (by decide) rfl rfl (Nat.le_of_ble_eq_true rfl) dX8_answersIn_64 h.2 (fun r g_3 hk_ => ?_) (fun x g1 h => z_out C hQ h)
        clear h; obtain ⟨rfl, h⟩ := hk_
        show GW X E 4 g_3 67 [(0, .ref a0), (1, .ref a1), (2, .int x2), (3, .int x3)] []
        intro H locs ls hR hS hl
        refine lv_iinc (v := x3 + 1) (lv' := [(3, .int (x3 + 1)), (0, .ref a0), (1, .ref a1), (2, .int x2)]) C.x C.b dX8_answersIn_67 hl (k := 3) rfl rfl (by decide) rfl (fun ls hl => ?_)
        refine lv_goto (tgt := 39) C.x C.b dX8_answersIn_70 (by decide) ?_
        exact h H locs ls hR hS (lv_sub hl [1, 2, 3, 0] rfl)
set_option maxHeartbeats 4000000 in
theorem mX8_answersIn {X : zX} {d : Nat} {g : zG} {K : Option Value → zG → Prop} {KX : String → zG → Prop} (hok : zOk X) (a0 : Nat) (a1 : Nat) (x2 : Int32) (h : ∀ E : zM, zC X (d + 1) E RX8 cX8_answersIn 4 none "answersIn" → zQ X E K KX → GW X E 4 g 2 [(0, .ref a0), (1, .ref a1), (2, .int x2), (3, .int 0)] []) : zCal X (d + 1) yX8_answersIn wX8_answersIn [.ref a0, .ref a1, .int x2] g K KX := by
  refine z_enter hok pn_X8 (Nat.le_of_ble_eq_true rfl) (fun E C hQ => ?_)
  have C : zC X (d + 1) E RX8 cX8_answersIn 4 none "answersIn" := C
  have h := h E C hQ
  show GW X E 4 g 0 [(0, .ref a0), (1, .ref a1), (2, .int x2)] []
  intro H locs ls hR hS hl
  refine lv_iconst (v := 0) C.x C.b dX8_answersIn_0 (by decide) ?_
  refine lv_istore_n (lv' := [(3, .int 0), (0, .ref a0), (1, .ref a1), (2, .int x2)]) C.x C.b dX8_answersIn_1 rfl hl (by decide) rfl (fun ls hl => ?_)
  exact h H locs ls hR hS (lv_sub hl [1, 2, 3, 0] rfl)
theorem hdF_J2_set : (yJ2_set.name = (⟨"java/util/List", "set", "(ILjava/lang/Object;)Ljava/lang/Object;"⟩ : MethodName).name ∧ yJ2_set.desc = (⟨"java/util/List", "set", "(ILjava/lang/Object;)Ljava/lang/Object;"⟩ : MethodName).desc) ∧ (⟨"java/util/List", "set", "(ILjava/lang/Object;)Ljava/lang/Object;"⟩ : MethodName).cls ≠ "java/lang/invoke/MethodHandle" ∧ (⟨"java/util/List", "set", "(ILjava/lang/Object;)Ljava/lang/Object;"⟩ : MethodName).cls ≠ "java/lang/invoke/VarHandle" ∧ (parseMethodDescriptor (⟨"java/util/List", "set", "(ILjava/lang/Object;)Ljava/lang/Object;"⟩ : MethodName).desc).map (fun d => d.parameters.length) = some 2 := by decide +kernel
theorem hdS_J21_valueOf : yJ21_valueOf.cls ≠ "java/lang/invoke/MethodHandle" ∧ yJ21_valueOf.cls ≠ "java/lang/invoke/VarHandle" ∧ (parseMethodDescriptor yJ21_valueOf.desc).map (fun d => d.parameters.length) = some 1 := by decide +kernel
theorem hdS_X6_init : yX6_init.cls ≠ "java/lang/invoke/MethodHandle" ∧ yX6_init.cls ≠ "java/lang/invoke/VarHandle" ∧ (parseMethodDescriptor yX6_init.desc).map (fun d => d.parameters.length) = some 2 := by decide +kernel
theorem hdV_X8_answersIn : yX8_answersIn.cls = RX8 ∧ yX8_answersIn.cls ≠ "java/lang/invoke/MethodHandle" ∧ yX8_answersIn.cls ≠ "java/lang/invoke/VarHandle" ∧ (parseMethodDescriptor yX8_answersIn.desc).map (fun d => d.parameters.length) = some 2 := by decide +kernel
set_option maxHeartbeats 4000000 in
theorem bX8_find_20 {X : zX} {d : Nat} {E : zM} {K : Option Value → zG → Prop} {KX : String → zG → Prop} (C : zC X (d + 1) E RX8 cX8_find 2 none "find") (hQ : zQ X E K KX) (g : zG) (a0 : Nat) (x1 : Int32) (h : ∃ (fs_1 : List Value) (a_2 : Nat), zGo g 8 a0 = some fs_1 ∧ fs_1[7]? = some (.ref a_2) ∧ ∃ (fs_3 : List Value) (a_4 : Nat), zGo g 1 a_2 = some fs_3 ∧ fs_3[2]? = some (.ref a_4) ∧ zIs g 0 a_4 ∧ zCal X d yJ2_size wJ2_size [.ref a_4] g (fun r g_5 => ∃ v_6 : Int32, r = some (.int v_6) ∧ (v_6 ≤ x1 → K none g_5) ∧ (¬ v_6 ≤ x1 → ∃ (fs_7 : List Value) (a_8 : Nat), zGo g_5 8 a0 = some fs_7 ∧ fs_7[5]? = some (.ref a_8) ∧ zIs g_5 0 a_8 ∧ zCal X d yJ2_size wJ2_size [.ref a_8] g_5 (fun r g_9 => ∃ v_10 : Int32, r = some (.int v_10) ∧ (¬ x1 = v_10 → ∃ (fs_11 : List Value) (a_12 : Nat), zGo g_9 8 a0 = some fs_11 ∧ fs_11[5]? = some (.ref a_12) ∧ zIs g_9 0 a_12 ∧ zCal X d yJ2_get wJ2_get [.ref a_12, .int x1] g_9 (fun r g_13 => ∃ r_14 : Option Nat, r = some (va_rf r_14) ∧ ∃ a_15 : Nat, r_14 = some a_15 ∧ zIs g_13 6 a_15 ∧ ∃ (fs_16 : List Value) (a_17 : Nat), zGo g_13 6 a_15 = some fs_16 ∧ fs_16[0]? = some (.ref a_17) ∧ (∃ k : Nat, k < 256 ∧ a_17 = zN X k) ∧ ∃ k_18 : Nat, k_18 < 256 ∧ a_17 = zN X k_18 ∧ ∀ v_19 : Int32, v_19 = vb_c k_18 → ∃ (fs_20 : List Value) (a_21 : Nat), zGo g_13 8 a0 = some fs_20 ∧ fs_20[7]? = some (.ref a_21) ∧ ∃ (fs_22 : List Value) (a_23 : Nat), zGo g_13 1 a_21 = some fs_22 ∧ fs_22[10]? = some (.ref a_23) ∧ ∃ (n_24 : Nat) (f_25 : Nat → Int32), zGi g_13 51 a_23 = some (n_24, f_25) ∧ vp_in x1 n_24 ∧ ∀ v_26 : Int32, v_26 = f_25 x1.toNatClampNeg → (v_19 = v_26 → GW X E 2 g_13 20 [(0, .ref a0), (1, .int (x1 + 1))] []) ∧ (¬ v_19 = v_26 → ∃ (fs_27 : List Value) (v_28 : Int32), zGo g_13 8 a0 = some fs_27 ∧ fs_27[6]? = some (.int v_28) ∧ ∃ (fs_29 : List Value) (a_30 : Nat), zGo g_13 8 a0 = some fs_29 ∧ fs_29[5]? = some (.ref a_30) ∧ zIs g_13 0 a_30 ∧ zCal X d yJ2_get wJ2_get [.ref a_30, .int x1] g_13 (fun r g_31 => ∃ r_32 : Option Nat, r = some (va_rf r_32) ∧ ∃ a_33 : Nat, r_32 = some a_33 ∧ zIs g_31 6 a_33 ∧ ∃ (fs_34 : List Value) (a_35 : Nat), zGo g_31 6 a_33 = some fs_34 ∧ fs_34[0]? = some (.ref a_35) ∧ (∃ k : Nat, k < 256 ∧ a_35 = zN X k) ∧ ∃ k_36 : Nat, k_36 < 256 ∧ a_35 = zN X k_36 ∧ ∀ v_37 : Int32, v_37 = vb_c k_36 → (¬ v_37 = 2 → ∃ (fs_38 : List Value), zGo g_31 8 a0 = some fs_38 ∧ 6 < fs_38.length ∧ ∀ g_39 : zG, g_39 = zSo g_31 8 a0 (fs_38.set 6 (.int (v_28 + 1))) → ∃ (fs_40 : List Value) (a_41 : Nat), zGo g_39 8 a0 = some fs_40 ∧ fs_40[5]? = some (.ref a_41) ∧ zGz g_39 + 1 + 2 ≤ zz X ∧ ∀ a_42 : Nat, zFr g_39 a_42 → ∀ g_43 : zG, g_43 = zSz (zSo g_39 6 a_42 [.null, .null]) (zGz g_39 + 1 + 2) → ∃ (fs_44 : List Value) (a_45 : Nat), zGo g_43 8 a0 = some fs_44 ∧ fs_44[7]? = some (.ref a_45) ∧ ∃ (fs_46 : List Value) (a_47 : Nat), zGo g_43 1 a_45 = some fs_46 ∧ fs_46[10]? = some (.ref a_47) ∧ ∃ (n_48 : Nat) (f_49 : Nat → Int32), zGi g_43 51 a_47 = some (n_48, f_49) ∧ vp_in x1 n_48 ∧ ∀ v_50 : Int32, v_50 = f_49 x1.toNatClampNeg → zCal X d yJ21_valueOf wJ21_valueOf [.int v_50] g_43 (fun r g_51 => ∃ a_53 : Nat, r = some (.ref a_53) ∧ ∃ (fs_54 : List Value) (a_55 : Nat), zGo g_51 8 a0 = some fs_54 ∧ fs_54[7]? = some (.ref a_55) ∧ ∃ (fs_56 : List Value) (a_57 : Nat), zGo g_51 1 a_55 = some fs_56 ∧ fs_56[2]? = some (.ref a_57) ∧ zIs g_51 0 a_57 ∧ zCal X d yJ2_size wJ2_size [.ref a_57] g_51 (fun r g_58 => ∃ v_59 : Int32, r = some (.int v_59) ∧ zCal X d yJ21_valueOf wJ21_valueOf [.int v_59] g_58 (fun r g_60 => ∃ a_62 : Nat, r = some (.ref a_62) ∧ zCal X d yX6_init wX6_init [.ref a_42, .ref a_53, .ref a_62] g_60 (fun r g_63 => r = none ∧ zIs g_63 0 a_41 ∧ zCal X d yJ2_set wJ2_set [.ref a_41, .int x1, .ref a_42] g_63 (fun r g_64 => ∃ r_65 : Option Nat, r = some (va_rf r_65) ∧ GW X E 2 g_64 20 [(0, .ref a0), (1, .int (x1 + 1))] []) KX) KX) KX) KX) KX) ∧ (v_37 = 2 → ∃ (fs_66 : List Value), zGo g_31 8 a0 = some fs_66 ∧ 6 < fs_66.length ∧ ∀ g_67 : zG, g_67 = zSo g_31 8 a0 (fs_66.set 6 (.int (v_28 + 0))) → ∃ (fs_68 : List Value) (a_69 : Nat), zGo g_67 8 a0 = some fs_68 ∧ fs_68[5]? = some (.ref a_69) ∧ zGz g_67 + 1 + 2 ≤ zz X ∧ ∀ a_70 : Nat, zFr g_67 a_70 → ∀ g_71 : zG, g_71 = zSz (zSo g_67 6 a_70 [.null, .null]) (zGz g_67 + 1 + 2) → ∃ (fs_72 : List Value) (a_73 : Nat), zGo g_71 8 a0 = some fs_72 ∧ fs_72[7]? = some (.ref a_73) ∧ ∃ (fs_74 : List Value) (a_75 : Nat), zGo g_71 1 a_73 = some fs_74 ∧ fs_74[10]? = some (.ref a_75) ∧ ∃ (n_76 : Nat) (f_77 : Nat → Int32), zGi g_71 51 a_75 = some (n_76, f_77) ∧ vp_in x1 n_76 ∧ ∀ v_78 : Int32, v_78 = f_77 x1.toNatClampNeg → zCal X d yJ21_valueOf wJ21_valueOf [.int v_78] g_71 (fun r g_79 => ∃ a_81 : Nat, r = some (.ref a_81) ∧ ∃ (fs_82 : List Value) (a_83 : Nat), zGo g_79 8 a0 = some fs_82 ∧ fs_82[7]? = some (.ref a_83) ∧ ∃ (fs_84 : List Value) (a_85 : Nat), zGo g_79 1 a_83 = some fs_84 ∧ fs_84[2]? = some (.ref a_85) ∧ zIs g_79 0 a_85 ∧ zCal X d yJ2_size wJ2_size [.ref a_85] g_79 (fun r g_86 => ∃ v_87 : Int32, r = some (.int v_87) ∧ zCal X d yJ21_valueOf wJ21_valueOf [.int v_87] g_86 (fun r g_88 => ∃ a_90 : Nat, r = some (.ref a_90) ∧ zCal X d yX6_init wX6_init [.ref a_70, .ref a_81, .ref a_90] g_88 (fun r g_91 => r = none ∧ zIs g_91 0 a_69 ∧ zCal X d yJ2_set wJ2_set [.ref a_69, .int x1, .ref a_70] g_91 (fun r g_92 => ∃ r_93 : Option Nat, r = some (va_rf r_93) ∧ GW X E 2 g_92 20 [(0, .ref a0), (1, .int (x1 + 1))] []) KX) KX) KX) KX) KX)) KX)) KX) ∧ (x1 = v_10 → ∃ (fs_94 : List Value) (a_95 : Nat), zGo g_9 8 a0 = some fs_94 ∧ fs_94[5]? = some (.ref a_95) ∧ zGz g_9 + 1 + 2 ≤ zz X ∧ ∀ a_96 : Nat, zFr g_9 a_96 → ∀ g_97 : zG, g_97 = zSz (zSo g_9 6 a_96 [.null, .null]) (zGz g_9 + 1 + 2) → ∃ (fs_98 : List Value) (a_99 : Nat), zGo g_97 8 a0 = some fs_98 ∧ fs_98[7]? = some (.ref a_99) ∧ ∃ (fs_100 : List Value) (a_101 : Nat), zGo g_97 1 a_99 = some fs_100 ∧ fs_100[10]? = some (.ref a_101) ∧ ∃ (n_102 : Nat) (f_103 : Nat → Int32), zGi g_97 51 a_101 = some (n_102, f_103) ∧ vp_in x1 n_102 ∧ ∀ v_104 : Int32, v_104 = f_103 x1.toNatClampNeg → zCal X d yJ21_valueOf wJ21_valueOf [.int v_104] g_97 (fun r g_105 => ∃ a_107 : Nat, r = some (.ref a_107) ∧ ∃ (fs_108 : List Value) (a_109 : Nat), zGo g_105 8 a0 = some fs_108 ∧ fs_108[7]? = some (.ref a_109) ∧ ∃ (fs_110 : List Value) (a_111 : Nat), zGo g_105 1 a_109 = some fs_110 ∧ fs_110[2]? = some (.ref a_111) ∧ zIs g_105 0 a_111 ∧ zCal X d yJ2_size wJ2_size [.ref a_111] g_105 (fun r g_112 => ∃ v_113 : Int32, r = some (.int v_113) ∧ zCal X d yJ21_valueOf wJ21_valueOf [.int v_113] g_112 (fun r g_114 => ∃ a_116 : Nat, r = some (.ref a_116) ∧ zCal X d yX6_init wX6_init [.ref a_96, .ref a_107, .ref a_116] g_114 (fun r g_117 => r = none ∧ zIs g_117 0 a_95 ∧ zCal X d yJ2_add wJ2_add [.ref a_95, .ref a_96] g_117 (fun r g_118 => ∃ v_119 : Int32, r = some (.int v_119) ∧ zbo v_119 ∧ GW X E 2 g_118 20 [(0, .ref a0), (1, .int (x1 + 1))] []) KX) KX) KX) KX) KX)) KX)) KX) : GW X E 2 g 20 [(0, .ref a0), (1, .int x1)] [] := by
  intro H locs ls hR hS hl
  refine lv_iload_n C.x C.b dX8_find_20 rfl (lv_at hl 1 rfl) ?_
  refine lv_aload_n C.x C.b dX8_find_21 rfl (lv_at hl 0 rfl) ?_
  obtain ⟨fs_1, a_2, q1, q2, h⟩ := h
  refine z_get C hR q1 rfl (ci := 8) rfl in_X8 7 (by decide) q1446 (fun _ h => h) q2 dX8_find_22 ?_
  obtain ⟨fs_3, a_4, q1, q2, h⟩ := h
  refine z_getN C hR q1 rfl (ci := 1) rfl in_X1 2 (by decide) q246 (fun _ h => h) q2 dX8_find_25 ?_
  refine z_callF C hR hS hl (n := 0) (C1 := RJ2) (T := TJ2) (N := 3) (ci := 0) (y := yJ2_size) (bytes := cJ2_size) (maxL := 1) (rt := (some .int)) (As := []) (rest := [.int x1]) (x := ⟨"java/util/List", "size", "()I"⟩) h.1 rfl (lw_F q1131 q294 q296 q76 q298) ⟨C.ok.2.1 _ q293, C.ok.2.1 _ q292, C.ok.2.1 _ q297, C.ok.2.1 _ q295, C.ok.2.1 _ q174⟩ hdF_J2_size (by decide) rfl rfl (Nat.le_of_ble_eq_true rfl) dX8_find_28 h.2 (fun r g_5 hk_ => ?_) (fun x g1 h => z_out C hQ h)
  clear h; obtain ⟨v_6, rfl, h⟩ := hk_
  show GW X E 2 g_5 33 [(0, .ref a0), (1, .int x1)] [.int v_6, .int x1]
  intro H locs ls hR hS hl
  obtain ⟨h1, h2⟩ := h
  refine lv_icmp_ge (tgt := 221) C.x C.b dX8_find_33 (by decide) (fun c => ?_) (fun c => ?_)
  · have h := h1 c; clear h1 h2
    exact z_vret C hQ dX8_find_221 h H locs ls hR hS hl
  · have h := h2 c; clear h1 h2
    refine lv_iload_n C.x C.b dX8_find_36 rfl (lv_at hl 1 rfl) ?_
    refine lv_aload_n C.x C.b dX8_find_37 rfl (lv_at hl 0 rfl) ?_
    obtain ⟨fs_7, a_8, q1, q2, h⟩ := h
    refine z_get C hR q1 rfl (ci := 8) rfl in_X8 5 (by decide) q1442 (fun _ h => h) q2 dX8_find_38 ?_
    refine z_callF C hR hS hl (n := 0) (C1 := RJ2) (T := TJ2) (N := 3) (ci := 0) (y := yJ2_size) (bytes := cJ2_size) (maxL := 1) (rt := (some .int)) (As := []) (rest := [.int x1]) (x := ⟨"java/util/List", "size", "()I"⟩) h.1 rfl (lw_F q1131 q294 q296 q76 q298) ⟨C.ok.2.1 _ q293, C.ok.2.1 _ q292, C.ok.2.1 _ q297, C.ok.2.1 _ q295, C.ok.2.1 _ q174⟩ hdF_J2_size (by decide) rfl rfl (Nat.le_of_ble_eq_true rfl) dX8_find_41 h.2 (fun r g_9 hk_ => ?_) (fun x g1 h => z_out C hQ h)
    clear h; obtain ⟨v_10, rfl, h⟩ := hk_
    show GW X E 2 g_9 46 [(0, .ref a0), (1, .int x1)] [.int v_10, .int x1]
    intro H locs ls hR hS hl
    obtain ⟨h1, h2⟩ := h
    refine lv_icmp_ne (tgt := 96) C.x C.b dX8_find_46 (by decide) (fun c => ?_) (fun c => ?_)
    · have h := h1 c; clear h1 h2
      refine lv_aload_n C.x C.b dX8_find_96 rfl (lv_at hl 0 rfl) ?_
      obtain ⟨fs_11, a_12, q1, q2, h⟩ := h
      refine z_get C hR q1 rfl (ci := 8) rfl in_X8 5 (by decide) q1442 (fun _ h => h) q2 dX8_find_97 ?_
      refine lv_iload_n C.x C.b dX8_find_100 rfl (lv_at hl 1 rfl) ?_
      refine z_callF C hR hS hl (n := 1) (C1 := RJ2) (T := TJ2) (N := 3) (ci := 0) (y := yJ2_get) (bytes := cJ2_get) (maxL := 2) (rt := (some (.object "java/lang/Object"))) (As := [.int x1]) (rest := []) (x := ⟨"java/util/List", "get", "(I)Ljava/lang/Object;"⟩) h.1 rfl (lw_F q1133 q381 q383 q76 q385) ⟨C.ok.2.1 _ q380, C.ok.2.1 _ q379, C.ok.2.1 _ q384, C.ok.2.1 _ q382, C.ok.2.1 _ q174⟩ hdF_J2_get (by decide) rfl rfl (Nat.le_of_ble_eq_true rfl) dX8_find_101 h.2 (fun r g_13 hk_ => ?_) (fun x g1 h => z_out C hQ h)
      clear h; obtain ⟨r_14, rfl, h⟩ := hk_
      show GW X E 2 g_13 106 [(0, .ref a0), (1, .int x1)] [va_rf r_14]
      intro H locs ls hR hS hl
      obtain ⟨a_15, e_, h⟩ := h; subst e_
      have hl : lv_has ls 2 [(0, .ref a0), (1, .int x1)] := by assumption
      show zV X E H locs (F0 (zm E) 106 ls [.ref a_15])
      refine z_castS C hR (ci := 6) (C1 := RX6) (T := TX6) (N := 2) h.1 rfl q1135 dX8_find_106 ?_
      have h := h.2
      obtain ⟨fs_16, a_17, q1, q2, h⟩ := h
      refine z_getN C hR q1 rfl (ci := 6) rfl in_X6 0 (by decide) q1161 (fun _ h => h) q2 dX8_find_109 ?_
      obtain ⟨q1, h⟩ := h
      refine z_castI C hR hS q1 q1172 dX8_find_112 ?_
      obtain ⟨k_18, q0, q1, h⟩ := h
      rw [q1]
      have h := h _ rfl
      refine z_intValue C hR hS hl (lc := [(0, .ref a0), (1, .int x1)]) (rest := []) q0 q1173 (Nat.le_of_ble_eq_true rfl) dX8_find_115 ?_
      generalize vb_c k_18 = v_19 at h ⊢
      show GW X E 2 g_13 118 [(0, .ref a0), (1, .int x1)] [.int v_19]
      intro H locs ls hR hS hl
      refine lv_aload_n C.x C.b dX8_find_118 rfl (lv_at hl 0 rfl) ?_
      obtain ⟨fs_20, a_21, q1, q2, h⟩ := h
      refine z_get C hR q1 rfl (ci := 8) rfl in_X8 7 (by decide) q1446 (fun _ h => h) q2 dX8_find_119 ?_
      obtain ⟨fs_22, a_23, q1, q2, h⟩ := h
      refine z_getN C hR q1 rfl (ci := 1) rfl in_X1 10 (by decide) q258 (fun _ h => h) q2 dX8_find_122 ?_
      refine lv_iload_n C.x C.b dX8_find_125 rfl (lv_at hl 1 rfl) ?_
      obtain ⟨n_24, f_25, q1, q2, h⟩ := h
      refine z_iald C hR q1 (by decide) q2 dX8_find_126 ?_
      have h := h _ rfl
      generalize f_25 x1.toNatClampNeg = v_26 at h ⊢
      obtain ⟨h1, h2⟩ := h
      refine lv_icmp_eq (tgt := 215) C.x C.b dX8_find_127 (by decide) (fun c => ?_) (fun c => ?_)
      · have h := h1 c; clear h1 h2
        refine lv_iinc (v := x1 + 1) (lv' := [(1, .int (x1 + 1)), (0, .ref a0)]) C.x C.b dX8_find_215 hl (k := 1) rfl rfl (by decide) rfl (fun ls hl => ?_)
        refine lv_goto (tgt := 20) C.x C.b dX8_find_218 (by decide) ?_
        exact h H locs ls hR hS (lv_sub hl [1, 0] rfl)
      · have h := h2 c; clear h1 h2
        refine lv_aload_n C.x C.b dX8_find_130 rfl (lv_at hl 0 rfl) ?_
        refine lv_dup C.x C.b dX8_find_131 rfl ?_
        obtain ⟨fs_27, v_28, q1, q2, h⟩ := h
        refine z_get C hR q1 rfl (ci := 8) rfl in_X8 6 (by decide) q1444 (fun _ h => h) q2 dX8_find_132 ?_
        refine lv_aload_n C.x C.b dX8_find_135 rfl (lv_at hl 0 rfl) ?_
        obtain ⟨fs_29, a_30, q1, q2, h⟩ := h
        refine z_get C hR q1 rfl (ci := 8) rfl in_X8 5 (by decide) q1442 (fun _ h => h) q2 dX8_find_136 ?_
        refine lv_iload_n C.x C.b dX8_find_139 rfl (lv_at hl 1 rfl) ?_
        refine z_callF C hR hS hl (n := 1) (C1 := RJ2) (T := TJ2) (N := 3) (ci := 0) (y := yJ2_get) (bytes := cJ2_get) (maxL := 2) (rt := (some (.object "java/lang/Object"))) (As := [.int x1]) (rest := [.int v_28, .ref a0]) (x := ⟨"java/util/List", "get", "(I)Ljava/lang/Object;"⟩) h.1 rfl (lw_F q1133 q381 q383 q76 q385) ⟨C.ok.2.1 _ q380, C.ok.2.1 _ q379, C.ok.2.1 _ q384, C.ok.2.1 _ q382, C.ok.2.1 _ q174⟩ hdF_J2_get (by decide) rfl rfl (Nat.le_of_ble_eq_true rfl) dX8_find_140 h.2 (fun r g_31 hk_ => ?_) (fun x g1 h => z_out C hQ h)
        clear h; obtain ⟨r_32, rfl, h⟩ := hk_
        show GW X E 2 g_31 145 [(0, .ref a0), (1, .int x1)] [va_rf r_32, .int v_28, .ref a0]
        intro H locs ls hR hS hl
        obtain ⟨a_33, e_, h⟩ := h; subst e_
        have hl : lv_has ls 2 [(0, .ref a0), (1, .int x1)] := by assumption
        show zV X E H locs (F0 (zm E) 145 ls [.ref a_33, .int v_28, .ref a0])
        refine z_castS C hR (ci := 6) (C1 := RX6) (T := TX6) (N := 2) h.1 rfl q1135 dX8_find_145 ?_
        have h := h.2
        obtain ⟨fs_34, a_35, q1, q2, h⟩ := h
        refine z_getN C hR q1 rfl (ci := 6) rfl in_X6 0 (by decide) q1161 (fun _ h => h) q2 dX8_find_148 ?_
        obtain ⟨q1, h⟩ := h
        refine z_castI C hR hS q1 q1172 dX8_find_151 ?_
        obtain ⟨k_36, q0, q1, h⟩ := h
        rw [q1]
        have h := h _ rfl
        refine z_intValue C hR hS hl (lc := [(0, .ref a0), (1, .int x1)]) (rest := [.int v_28, .ref a0]) q0 q1173 (Nat.le_of_ble_eq_true rfl) dX8_find_154 ?_
        generalize vb_c k_36 = v_37 at h ⊢
        show GW X E 2 g_31 157 [(0, .ref a0), (1, .int x1)] [.int v_37, .int v_28, .ref a0]
        intro H locs ls hR hS hl
        refine lv_iconst (v := 2) C.x C.b dX8_find_157 (by decide) ?_
        obtain ⟨h1, h2⟩ := h
        refine lv_icmp_ne (tgt := 165) C.x C.b dX8_find_158 (by decide) (fun c => ?_) (fun c => ?_)
        · have h := h1 c; clear h1 h2
          refine lv_iconst (v := 1) C.x C.b dX8_find_165 (by decide) ?_
          refine lv_iadd C.x C.b dX8_find_166 ?_
          obtain ⟨fs_38, q1, q2, h⟩ := h
          refine z_put C hR hS q1 rfl (ci := 8) rfl in_X8 tyX8 tyX8_ok nmX8 6 (by decide) q1444 (fun _ h => h) rfl ⟨rfl, rfl⟩ q2 dX8_find_167 (fun H locs hR hS => ?_)
          have h := h _ rfl
          generalize zSo g_31 8 a0 (fs_38.set 6 (.int (v_28 + 1))) = g_39 at h hR
          refine lv_aload_n C.x C.b dX8_find_170 rfl (lv_at hl 0 rfl) ?_
          obtain ⟨fs_40, a_41, q1, q2, h⟩ := h
          refine z_get C hR q1 rfl (ci := 8) rfl in_X8 5 (by decide) q1442 (fun _ h => h) q2 dX8_find_171 ?_
          refine lv_iload_n C.x C.b dX8_find_174 rfl (lv_at hl 1 rfl) ?_
          obtain ⟨q1, h⟩ := h
          refine z_new C hR hS 6 rfl (ci := 6) rfl in_X6 tyX6 tyX6_ok q1135 q1136 q104 (fs := [.null, .null]) zdf_X6 q1 dX8_find_175 (fun a_42 hf H hR hS => ?_)
          have h := h a_42 hf _ rfl
          generalize zSz (zSo g_39 6 a_42 [.null, .null]) (zGz g_39 + 1 + 2) = g_43 at h hR
          refine lv_dup C.x C.b dX8_find_178 rfl ?_
          refine lv_aload_n C.x C.b dX8_find_179 rfl (lv_at hl 0 rfl) ?_
          obtain ⟨fs_44, a_45, q1, q2, h⟩ := h
          refine z_get C hR q1 rfl (ci := 8) rfl in_X8 7 (by decide) q1446 (fun _ h => h) q2 dX8_find_180 ?_
          obtain ⟨fs_46, a_47, q1, q2, h⟩ := h
          refine z_getN C hR q1 rfl (ci := 1) rfl in_X1 10 (by decide) q258 (fun _ h => h) q2 dX8_find_183 ?_
          refine lv_iload_n C.x C.b dX8_find_186 rfl (lv_at hl 1 rfl) ?_
          obtain ⟨n_48, f_49, q1, q2, h⟩ := h
          refine z_iald C hR q1 (by decide) q2 dX8_find_187 ?_
          have h := h _ rfl
          generalize f_49 x1.toNatClampNeg = v_50 at h ⊢
          refine z_callS C hR hS hl (n := 1) (y := yJ21_valueOf) (bytes := cJ21_valueOf) (maxL := 1) (rt := (some (.object "java/lang/Integer"))) (As := [.int v_50]) (rest := [.ref a_42, .ref a_42, .int x1, .ref a_41]) (lw_S q1137 q1138 q99 q1139) hdS_J21_valueOf (by decide) rfl rfl (Nat.le_of_ble_eq_true rfl) dX8_find_188 h (fun r g_51 hk_ => ?_) (fun x g1 h => z_out C hQ h)
          clear h; obtain ⟨a_53, rfl, h⟩ := hk_
          show GW X E 2 g_51 191 [(0, .ref a0), (1, .int x1)] [.ref a_53, .ref a_42, .ref a_42, .int x1, .ref a_41]
          intro H locs ls hR hS hl
          refine lv_aload_n C.x C.b dX8_find_191 rfl (lv_at hl 0 rfl) ?_
          obtain ⟨fs_54, a_55, q1, q2, h⟩ := h
          refine z_get C hR q1 rfl (ci := 8) rfl in_X8 7 (by decide) q1446 (fun _ h => h) q2 dX8_find_192 ?_
          obtain ⟨fs_56, a_57, q1, q2, h⟩ := h
          refine z_getN C hR q1 rfl (ci := 1) rfl in_X1 2 (by decide) q246 (fun _ h => h) q2 dX8_find_195 ?_
          refine z_callF C hR hS hl (n := 0) (C1 := RJ2) (T := TJ2) (N := 3) (ci := 0) (y := yJ2_size) (bytes := cJ2_size) (maxL := 1) (rt := (some .int)) (As := []) (rest := [.ref a_53, .ref a_42, .ref a_42, .int x1, .ref a_41]) (x := ⟨"java/util/List", "size", "()I"⟩) h.1 rfl (lw_F q1131 q294 q296 q76 q298) ⟨C.ok.2.1 _ q293, C.ok.2.1 _ q292, C.ok.2.1 _ q297, C.ok.2.1 _ q295, C.ok.2.1 _ q174⟩ hdF_J2_size (by decide) rfl rfl (Nat.le_of_ble_eq_true rfl) dX8_find_198 h.2 (fun r g_58 hk_ => ?_) (fun x g1 h => z_out C hQ h)
          clear h; obtain ⟨v_59, rfl, h⟩ := hk_
          show GW X E 2 g_58 203 [(0, .ref a0), (1, .int x1)] [.int v_59, .ref a_53, .ref a_42, .ref a_42, .int x1, .ref a_41]
          intro H locs ls hR hS hl
          refine z_callS C hR hS hl (n := 1) (y := yJ21_valueOf) (bytes := cJ21_valueOf) (maxL := 1) (rt := (some (.object "java/lang/Integer"))) (As := [.int v_59]) (rest := [.ref a_53, .ref a_42, .ref a_42, .int x1, .ref a_41]) (lw_S q1137 q1138 q99 q1139) hdS_J21_valueOf (by decide) rfl rfl (Nat.le_of_ble_eq_true rfl) dX8_find_203 h (fun r g_60 hk_ => ?_) (fun x g1 h => z_out C hQ h)
          clear h; obtain ⟨a_62, rfl, h⟩ := hk_
          show GW X E 2 g_60 206 [(0, .ref a0), (1, .int x1)] [.ref a_62, .ref a_53, .ref a_42, .ref a_42, .int x1, .ref a_41]
          intro H locs ls hR hS hl
          refine z_callI C hR hS hl (n := 2) (y := yX6_init) (bytes := cX6_init) (maxL := 3) (As := [.ref a_53, .ref a_62]) (rest := [.ref a_42, .int x1, .ref a_41]) (lw_meth q1158) q104 q1156 q1157 rfl hdS_X6_init (by decide) rfl rfl (Nat.le_of_ble_eq_true rfl) dX8_find_206 h (fun r g_63 hk_ => ?_) (fun x g1 h => z_out C hQ h)
          clear h; obtain ⟨rfl, h⟩ := hk_
          show GW X E 2 g_63 209 [(0, .ref a0), (1, .int x1)] [.ref a_42, .int x1, .ref a_41]
          intro H locs ls hR hS hl
          refine z_callF C hR hS hl (n := 2) (C1 := RJ2) (T := TJ2) (N := 3) (ci := 0) (y := yJ2_set) (bytes := cJ2_set) (maxL := 4) (rt := (some (.object "java/lang/Object"))) (As := [.int x1, .ref a_42]) (rest := []) (x := ⟨"java/util/List", "set", "(ILjava/lang/Object;)Ljava/lang/Object;"⟩) h.1 rfl (lw_F q1175 q1178 q1180 q76 q1182) ⟨C.ok.2.1 _ q1177, C.ok.2.1 _ q1176, C.ok.2.1 _ q1181, C.ok.2.1 _ q1179, C.ok.2.1 _ q174⟩ hdF_J2_set (by decide) rfl rfl (Nat.le_of_ble_eq_true rfl) dX8_find_209 h.2 (fun r g_64 hk_ => ?_) (fun x g1 h => z_out C hQ h)
          clear h; obtain ⟨r_65, rfl, h⟩ := hk_
          show GW X E 2 g_64 214 [(0, .ref a0), (1, .int x1)] [va_rf r_65]
          intro H locs ls hR hS hl
          refine lv_pop C.x C.b dX8_find_214 (zrf_cat _) ?_
          refine lv_iinc (v := x1 + 1) (lv' := [(1, .int (x1 + 1)), (0, .ref a0)]) C.x C.b dX8_find_215 hl (k := 1) rfl rfl (by decide) rfl (fun ls hl => ?_)
          refine lv_goto (tgt := 20) C.x C.b dX8_find_218 (by decide) ?_
          exact h H locs ls hR hS (lv_sub hl [1, 0] rfl)
        · have h := h2 c; clear h1 h2
          refine lv_iconst (v := 0) C.x C.b dX8_find_161 (by decide) ?_
          refine lv_goto (tgt := 166) C.x C.b dX8_find_162 (by decide) ?_
          refine lv_iadd C.x C.b dX8_find_166 ?_
          obtain ⟨fs_66, q1, q2, h⟩ := h
          refine z_put C hR hS q1 rfl (ci := 8) rfl in_X8 tyX8 tyX8_ok nmX8 6 (by decide) q1444 (fun _ h => h) rfl ⟨rfl, rfl⟩ q2 dX8_find_167 (fun H locs hR hS => ?_)
          have h := h _ rfl
          generalize zSo g_31 8 a0 (fs_66.set 6 (.int (v_28 + 0))) = g_67 at h hR
          refine lv_aload_n C.x C.b dX8_find_170 rfl (lv_at hl 0 rfl) ?_
          obtain ⟨fs_68, a_69, q1, q2, h⟩ := h
          refine z_get C hR q1 rfl (ci := 8) rfl in_X8 5 (by decide) q1442 (fun _ h => h) q2 dX8_find_171 ?_
          refine lv_iload_n C.x C.b dX8_find_174 rfl (lv_at hl 1 rfl) ?_
          obtain ⟨q1, h⟩ := h
          refine z_new C hR hS 6 rfl (ci := 6) rfl in_X6 tyX6 tyX6_ok q1135 q1136 q104 (fs := [.null, .null]) zdf_X6 q1 dX8_find_175 (fun a_70 hf H hR hS => ?_)
          have h := h a_70 hf _ rfl
          generalize zSz (zSo g_67 6 a_70 [.null, .null]) (zGz g_67 + 1 + 2) = g_71 at h hR
          refine lv_dup C.x C.b dX8_find_178 rfl ?_
          refine lv_aload_n C.x C.b dX8_find_179 rfl (lv_at hl 0 rfl) ?_
          obtain ⟨fs_72, a_73, q1, q2, h⟩ := h
          refine z_get C hR q1 rfl (ci := 8) rfl in_X8 7 (by decide) q1446 (fun _ h => h) q2 dX8_find_180 ?_
          obtain ⟨fs_74, a_75, q1, q2, h⟩ := h
          refine z_getN C hR q1 rfl (ci := 1) rfl in_X1 10 (by decide) q258 (fun _ h => h) q2 dX8_find_183 ?_
          refine lv_iload_n C.x C.b dX8_find_186 rfl (lv_at hl 1 rfl) ?_
          obtain ⟨n_76, f_77, q1, q2, h⟩ := h
          refine z_iald C hR q1 (by decide) q2 dX8_find_187 ?_
          have h := h _ rfl
          generalize f_77 x1.toNatClampNeg = v_78 at h ⊢
          refine z_callS C hR hS hl (n := 1) (y := yJ21_valueOf) (bytes := cJ21_valueOf) (maxL := 1) (rt := (some (.object "java/lang/Integer"))) (As := [.int v_78]) (rest := [.ref a_70, .ref a_70, .int x1, .ref a_69]) (lw_S q1137 q1138 q99 q1139) hdS_J21_valueOf (by decide) rfl rfl (Nat.le_of_ble_eq_true rfl) dX8_find_188 h (fun r g_79 hk_ => ?_) (fun x g1 h => z_out C hQ h)
          clear h; obtain ⟨a_81, rfl, h⟩ := hk_
          show GW X E 2 g_79 191 [(0, .ref a0), (1, .int x1)] [.ref a_81, .ref a_70, .ref a_70, .int x1, .ref a_69]
          intro H locs ls hR hS hl
          refine lv_aload_n C.x C.b dX8_find_191 rfl (lv_at hl 0 rfl) ?_
          obtain ⟨fs_82, a_83, q1, q2, h⟩ := h
          refine z_get C hR q1 rfl (ci := 8) rfl in_X8 7 (by decide) q1446 (fun _ h => h) q2 dX8_find_192 ?_
          obtain ⟨fs_84, a_85, q1, q2, h⟩ := h
          refine z_getN C hR q1 rfl (ci := 1) rfl in_X1 2 (by decide) q246 (fun _ h => h) q2 dX8_find_195 ?_
          refine z_callF C hR hS hl (n := 0) (C1 := RJ2) (T := TJ2) (N := 3) (ci := 0) (y := yJ2_size) (bytes := cJ2_size) (maxL := 1) (rt := (some .int)) (As := []) (rest := [.ref a_81, .ref a_70, .ref a_70, .int x1, .ref a_69]) (x := ⟨"java/util/List", "size", "()I"⟩) h.1 rfl (lw_F q1131 q294 q296 q76 q298) ⟨C.ok.2.1 _ q293, C.ok.2.1 _ q292, C.ok.2.1 _ q297, C.ok.2.1 _ q295, C.ok.2.1 _ q174⟩ hdF_J2_size (by decide) rfl rfl (Nat.le_of_ble_eq_true rfl) dX8_find_198 h.2 (fun r g_86 hk_ => ?_) (fun x g1 h => z_out C hQ h)
          clear h; obtain ⟨v_87, rfl, h⟩ := hk_
          show GW X E 2 g_86 203 [(0, .ref a0), (1, .int x1)] [.int v_87, .ref a_81, .ref a_70, .ref a_70, .int x1, .ref a_69]
          intro H locs ls hR hS hl
          refine z_callS C hR hS hl (n := 1) (y := yJ21_valueOf) (bytes := cJ21_valueOf) (maxL := 1) (rt := (some (.object "java/lang/Integer"))) (As := [.int v_87]) (rest := [.ref a_81, .ref a_70, .ref a_70, .int x1, .ref a_69]) (lw_S q1137 q1138 q99 q1139) hdS_J21_valueOf (by decide) rfl rfl (Nat.le_of_ble_eq_true rfl) dX8_find_203 h (fun r g_88 hk_ => ?_) (fun x g1 h => z_out C hQ h)
          clear h; obtain ⟨a_90, rfl, h⟩ := hk_
          show GW X E 2 g_88 206 [(0, .ref a0), (1, .int x1)] [.ref a_90, .ref a_81, .ref a_70, .ref a_70, .int x1, .ref a_69]
          intro H locs ls hR hS hl
          refine z_callI C hR hS hl (n := 2) (y := yX6_init) (bytes := cX6_init) (maxL := 3) (As := [.ref a_81, .ref a_90]) (rest := [.ref a_70, .int x1, .ref a_69]) (lw_meth q1158) q104 q1156 q1157 rfl hdS_X6_init (by decide) rfl rfl (Nat.le_of_ble_eq_true rfl) dX8_find_206 h (fun r g_91 hk_ => ?_) (fun x g1 h => z_out C hQ h)
          clear h; obtain ⟨rfl, h⟩ := hk_
          show GW X E 2 g_91 209 [(0, .ref a0), (1, .int x1)] [.ref a_70, .int x1, .ref a_69]
          intro H locs ls hR hS hl
          refine z_callF C hR hS hl (n := 2) (C1 := RJ2) (T := TJ2) (N := 3) (ci := 0) (y := yJ2_set) (bytes := cJ2_set) (maxL := 4) (rt := (some (.object "java/lang/Object"))) (As := [.int x1, .ref a_70]) (rest := []) (x := ⟨"java/util/List", "set", "(ILjava/lang/Object;)Ljava/lang/Object;"⟩) h.1 rfl (lw_F q1175 q1178 q1180 q76 q1182) ⟨C.ok.2.1 _ q1177, C.ok.2.1 _ q1176, C.ok.2.1 _ q1181, C.ok.2.1 _ q1179, C.ok.2.1 _ q174⟩ hdF_J2_set (by decide) rfl rfl (Nat.le_of_ble_eq_true rfl) dX8_find_209 h.2 (fun r g_92 hk_ => ?_) (fun x g1 h => z_out C hQ h)
          clear h; obtain ⟨r_93, rfl, h⟩ := hk_
          show GW X E 2 g_92 214 [(0, .ref a0), (1, .int x1)] [va_rf r_93]
          intro H locs ls hR hS hl
          refine lv_pop C.x C.b dX8_find_214 (zrf_cat _) ?_
          refine lv_iinc (v := x1 + 1) (lv' := [(1, .int (x1 + 1)), (0, .ref a0)]) C.x C.b dX8_find_215 hl (k := 1) rfl rfl (by decide) rfl (fun ls hl => ?_)
          refine lv_goto (tgt := 20) C.x C.b dX8_find_218 (by decide) ?_
          exact h H locs ls hR hS (lv_sub hl [1, 0] rfl)
    · have h := h2 c; clear h1 h2
      refine lv_aload_n C.x C.b dX8_find_49 rfl (lv_at hl 0 rfl) ?_
      obtain ⟨fs_94, a_95, q1, q2, h⟩ := h
      refine z_get C hR q1 rfl (ci := 8) rfl in_X8 5 (by decide) q1442 (fun _ h => h) q2 dX8_find_50 ?_
      obtain ⟨q1, h⟩ := h
      refine z_new C hR hS 6 rfl (ci := 6) rfl in_X6 tyX6 tyX6_ok q1135 q1136 q104 (fs := [.null, .null]) zdf_X6 q1 dX8_find_53 (fun a_96 hf H hR hS => ?_)
      have h := h a_96 hf _ rfl
      generalize zSz (zSo g_9 6 a_96 [.null, .null]) (zGz g_9 + 1 + 2) = g_97 at h hR
      refine lv_dup C.x C.b dX8_find_56 rfl ?_
      refine lv_aload_n C.x C.b dX8_find_57 rfl (lv_at hl 0 rfl) ?_
      obtain ⟨fs_98, a_99, q1, q2, h⟩ := h
      refine z_get C hR q1 rfl (ci := 8) rfl in_X8 7 (by decide) q1446 (fun _ h => h) q2 dX8_find_58 ?_
      obtain ⟨fs_100, a_101, q1, q2, h⟩ := h
      refine z_getN C hR q1 rfl (ci := 1) rfl in_X1 10 (by decide) q258 (fun _ h => h) q2 dX8_find_61 ?_
      refine lv_iload_n C.x C.b dX8_find_64 rfl (lv_at hl 1 rfl) ?_
      obtain ⟨n_102, f_103, q1, q2, h⟩ := h
      refine z_iald C hR q1 (by decide) q2 dX8_find_65 ?_
      have h := h _ rfl
      generalize f_103 x1.toNatClampNeg = v_104 at h ⊢
      refine z_callS C hR hS hl (n := 1) (y := yJ21_valueOf) (bytes := cJ21_valueOf) (maxL := 1) (rt := (some (.object "java/lang/Integer"))) (As := [.int v_104]) (rest := [.ref a_96, .ref a_96, .ref a_95]) (lw_S q1137 q1138 q99 q1139) hdS_J21_valueOf (by decide) rfl rfl (Nat.le_of_ble_eq_true rfl) dX8_find_66 h (fun r g_105 hk_ => ?_) (fun x g1 h => z_out C hQ h)
      clear h; obtain ⟨a_107, rfl, h⟩ := hk_
      show GW X E 2 g_105 69 [(0, .ref a0), (1, .int x1)] [.ref a_107, .ref a_96, .ref a_96, .ref a_95]
      intro H locs ls hR hS hl
      refine lv_aload_n C.x C.b dX8_find_69 rfl (lv_at hl 0 rfl) ?_
      obtain ⟨fs_108, a_109, q1, q2, h⟩ := h
      refine z_get C hR q1 rfl (ci := 8) rfl in_X8 7 (by decide) q1446 (fun _ h => h) q2 dX8_find_70 ?_
      obtain ⟨fs_110, a_111, q1, q2, h⟩ := h
      refine z_getN C hR q1 rfl (ci := 1) rfl in_X1 2 (by decide) q246 (fun _ h => h) q2 dX8_find_73 ?_
      refine z_callF C hR hS hl (n := 0) (C1 := RJ2) (T := TJ2) (N := 3) (ci := 0) (y := yJ2_size) (bytes := cJ2_size) (maxL := 1) (rt := (some .int)) (As := []) (rest := [.ref a_107, .ref a_96, .ref a_96, .ref a_95]) (x := ⟨"java/util/List", "size", "()I"⟩) h.1 rfl (lw_F q1131 q294 q296 q76 q298) ⟨C.ok.2.1 _ q293, C.ok.2.1 _ q292, C.ok.2.1 _ q297, C.ok.2.1 _ q295, C.ok.2.1 _ q174⟩ hdF_J2_size (by decide) rfl rfl (Nat.le_of_ble_eq_true rfl) dX8_find_76 h.2 (fun r g_112 hk_ => ?_) (fun x g1 h => z_out C hQ h)
      clear h; obtain ⟨v_113, rfl, h⟩ := hk_
      show GW X E 2 g_112 81 [(0, .ref a0), (1, .int x1)] [.int v_113, .ref a_107, .ref a_96, .ref a_96, .ref a_95]
      intro H locs ls hR hS hl
      refine z_callS C hR hS hl (n := 1) (y := yJ21_valueOf) (bytes := cJ21_valueOf) (maxL := 1) (rt := (some (.object "java/lang/Integer"))) (As := [.int v_113]) (rest := [.ref a_107, .ref a_96, .ref a_96, .ref a_95]) (lw_S q1137 q1138 q99 q1139) hdS_J21_valueOf (by decide) rfl rfl (Nat.le_of_ble_eq_true rfl) dX8_find_81 h (fun r g_114 hk_ => ?_) (fun x g1 h => z_out C hQ h)
      clear h; obtain ⟨a_116, rfl, h⟩ := hk_
      show GW X E 2 g_114 84 [(0, .ref a0), (1, .int x1)] [.ref a_116, .ref a_107, .ref a_96, .ref a_96, .ref a_95]
      intro H locs ls hR hS hl
      refine z_callI C hR hS hl (n := 2) (y := yX6_init) (bytes := cX6_init) (maxL := 3) (As := [.ref a_107, .ref a_116]) (rest := [.ref a_96, .ref a_95]) (lw_meth q1158) q104 q1156 q1157 rfl hdS_X6_init (by decide) rfl rfl (Nat.le_of_ble_eq_true rfl) dX8_find_84 h (fun r g_117 hk_ => ?_) (fun x g1 h => z_out C hQ h)
      clear h; obtain ⟨rfl, h⟩ := hk_
      show GW X E 2 g_117 87 [(0, .ref a0), (1, .int x1)] [.ref a_96, .ref a_95]
      intro H locs ls hR hS hl
      refine z_callF C hR hS hl (n := 1) (C1 := RJ2) (T := TJ2) (N := 3) (ci := 0) (y := yJ2_add) (bytes := cJ2_add) (maxL := 2) (rt := (some .boolean)) (As := [.ref a_96]) (rest := []) (x := ⟨"java/util/List", "add", "(Ljava/lang/Object;)Z"⟩) h.1 rfl (lw_F q1171 q175 q177 q76 q179) ⟨C.ok.2.1 _ q173, C.ok.2.1 _ q172, C.ok.2.1 _ q178, C.ok.2.1 _ q176, C.ok.2.1 _ q174⟩ hdF_J2_add (by decide) rfl rfl (Nat.le_of_ble_eq_true rfl) dX8_find_87 h.2 (fun r g_118 hk_ => ?_) (fun x g1 h => z_out C hQ h)
      clear h; obtain ⟨v_119, rfl, zb_, h⟩ := hk_
      show GW X E 2 g_118 92 [(0, .ref a0), (1, .int x1)] [.int v_119]
      intro H locs ls hR hS hl
      refine lv_pop C.x C.b dX8_find_92 rfl ?_
      refine lv_goto (tgt := 215) C.x C.b dX8_find_93 (by decide) ?_
      refine lv_iinc (v := x1 + 1) (lv' := [(1, .int (x1 + 1)), (0, .ref a0)]) C.x C.b dX8_find_215 hl (k := 1) rfl rfl (by decide) rfl (fun ls hl => ?_)
      refine lv_goto (tgt := 20) C.x C.b dX8_find_218 (by decide) ?_
      exact h H locs ls hR hS (lv_sub hl [1, 0] rfl)
set_option maxHeartbeats 4000000 in
theorem mX8_find {X : zX} {d : Nat} {g : zG} {K : Option Value → zG → Prop} {KX : String → zG → Prop} (hok : zOk X) (a0 : Nat) (h : ∀ E : zM, zC X (d + 1) E RX8 cX8_find 2 none "find" → zQ X E K KX → ∃ (fs_1 : List Value) (a_2 : Nat), zGo g 8 a0 = some fs_1 ∧ fs_1[7]? = some (.ref a_2) ∧ ∃ (fs_3 : List Value) (a_4 : Nat), zGo g 1 a_2 = some fs_3 ∧ fs_3[3]? = some (.ref a_4) ∧ ∃ (fs_5 : List Value) (a_6 : Nat), zGo g 8 a0 = some fs_5 ∧ fs_5[7]? = some (.ref a_6) ∧ zIs g 1 a_6 ∧ zCal X d yX1_ids wX1_ids [.ref a_6] g (fun r g_7 => ∃ v_8 : Int32, r = some (.int v_8) ∧ zIs g_7 8 a0 ∧ zCal X d yX8_answersIn wX8_answersIn [.ref a0, .ref a_4, .int v_8] g_7 (fun r g_9 => r = none ∧ GW X E 2 g_9 20 [(0, .ref a0), (1, .int 0)] []) KX) KX) : zCal X (d + 1) yX8_find wX8_find [.ref a0] g K KX := by
  refine z_enter hok pn_X8 (Nat.le_of_ble_eq_true rfl) (fun E C hQ => ?_)
  have C : zC X (d + 1) E RX8 cX8_find 2 none "find" := C
  have h := h E C hQ
  show GW X E 2 g 0 [(0, .ref a0)] []
  intro H locs ls hR hS hl
  refine lv_aload_n C.x C.b dX8_find_0 rfl (lv_at hl 0 rfl) ?_
  refine lv_aload_n C.x C.b dX8_find_1 rfl (lv_at hl 0 rfl) ?_
  obtain ⟨fs_1, a_2, q1, q2, h⟩ := h
  refine z_get C hR q1 rfl (ci := 8) rfl in_X8 7 (by decide) q1446 (fun _ h => h) q2 dX8_find_2 ?_
  obtain ⟨fs_3, a_4, q1, q2, h⟩ := h
  refine z_getN C hR q1 rfl (ci := 1) rfl in_X1 3 (by decide) q249 (fun _ h => h) q2 dX8_find_5 ?_
  refine lv_aload_n C.x C.b dX8_find_8 rfl (lv_at hl 0 rfl) ?_
  obtain ⟨fs_5, a_6, q1, q2, h⟩ := h
  refine z_get C hR q1 rfl (ci := 8) rfl in_X8 7 (by decide) q1446 (fun _ h => h) q2 dX8_find_9 ?_
  refine z_callVN C hR hS hl (n := 0) (C1 := RX1) (T := TX1) (N := 12) (ci := 1) (y := yX1_ids) (bytes := cX1_ids) (maxL := 3) (rt := (some .int)) (As := []) (rest := [.ref a_4, .ref a0]) h.1 rfl (lw_meth q454) (C.nestM q451) (C.ts _ q73) (C.ts _ q453) (C.ts _ qs4) hdS_X1_ids (by decide) rfl rfl (Nat.le_of_ble_eq_true rfl) dX8_find_12 h.2 (fun r g_7 hk_ => ?_) (fun x g1 h => z_out C hQ h)
  clear h; obtain ⟨v_8, rfl, h⟩ := hk_
  show GW X E 2 g_7 15 [(0, .ref a0)] [.int v_8, .ref a_4, .ref a0]
  intro H locs ls hR hS hl
  refine z_callV C hR hS hl (n := 2) (C1 := RX8) (T := TX8) (N := 8) (ci := 8) (y := yX8_answersIn) (bytes := cX8_answersIn) (maxL := 4) (rt := none) (As := [.ref a_4, .int v_8]) (rest := []) h.1 rfl (lw_V q1121 q1122 q1123 q107 q1124) hdV_X8_answersIn (by decide) rfl rfl (Nat.le_of_ble_eq_true rfl) dX8_find_15 h.2 (fun r g_9 hk_ => ?_) (fun x g1 h => z_out C hQ h)
  clear h; obtain ⟨rfl, h⟩ := hk_
  show GW X E 2 g_9 18 [(0, .ref a0)] []
  intro H locs ls hR hS hl
  refine lv_iconst (v := 0) C.x C.b dX8_find_18 (by decide) ?_
  refine lv_istore_n (lv' := [(1, .int 0), (0, .ref a0)]) C.x C.b dX8_find_19 rfl hl (by decide) rfl (fun ls hl => ?_)
  exact h H locs ls hR hS (lv_sub hl [1, 0] rfl)
theorem hdS_J2_init : yJ2_init.cls ≠ "java/lang/invoke/MethodHandle" ∧ yJ2_init.cls ≠ "java/lang/invoke/VarHandle" ∧ (parseMethodDescriptor yJ2_init.desc).map (fun d => d.parameters.length) = some 0 := by decide +kernel
theorem hdS_X9_init : yX9_init.cls ≠ "java/lang/invoke/MethodHandle" ∧ yX9_init.cls ≠ "java/lang/invoke/VarHandle" ∧ (parseMethodDescriptor yX9_init.desc).map (fun d => d.parameters.length) = some 2 := by decide +kernel
set_option maxHeartbeats 4000000 in
theorem mX8_init {X : zX} {d : Nat} {g : zG} {K : Option Value → zG → Prop} {KX : String → zG → Prop} (hok : zOk X) (a0 : Nat) (a1 : Nat) (a2 : Nat) (x3 : Int32) (x4 : Int32) (h : ∃ (fs_1 : List Value), zGo g 8 a0 = some fs_1 ∧ 7 < fs_1.length ∧ ∀ g_2 : zG, g_2 = zSo g 8 a0 (fs_1.set 7 (.ref a1)) → ∃ k_5 : Nat, zkc k_5 = 0 ∧ zGz g_2 + 1 + 3 ≤ zz X ∧ ∀ a_3 : Nat, zFr g_2 a_3 → ∀ g_4 : zG, g_4 = zSz (zSo g_2 k_5 a_3 [.int 0, .null, .int 0]) (zGz g_2 + 1 + 3) → zCal X d yJ2_init wJ2_init [.ref a_3] g_4 (fun r g_6 => r = none ∧ ∃ (fs_7 : List Value), zGo g_6 8 a0 = some fs_7 ∧ 1 < fs_7.length ∧ ∀ g_8 : zG, g_8 = zSo g_6 8 a0 (fs_7.set 1 (.ref a_3)) → ∃ k_11 : Nat, zkc k_11 = 0 ∧ zGz g_8 + 1 + 3 ≤ zz X ∧ ∀ a_9 : Nat, zFr g_8 a_9 → ∀ g_10 : zG, g_10 = zSz (zSo g_8 k_11 a_9 [.int 0, .null, .int 0]) (zGz g_8 + 1 + 3) → zCal X d yJ2_init wJ2_init [.ref a_9] g_10 (fun r g_12 => r = none ∧ ∃ (fs_13 : List Value), zGo g_12 8 a0 = some fs_13 ∧ 5 < fs_13.length ∧ ∀ g_14 : zG, g_14 = zSo g_12 8 a0 (fs_13.set 5 (.ref a_9)) → ∃ (fs_15 : List Value), zGo g_14 8 a0 = some fs_15 ∧ 0 < fs_15.length ∧ ∀ g_16 : zG, g_16 = zSo g_14 8 a0 (fs_15.set 0 (.ref a2)) → ∃ (fs_17 : List Value), zGo g_16 8 a0 = some fs_17 ∧ 3 < fs_17.length ∧ zbo x3 ∧ ∀ g_18 : zG, g_18 = zSo g_16 8 a0 (fs_17.set 3 (.int x3)) → ∃ (fs_19 : List Value), zGo g_18 8 a0 = some fs_19 ∧ 4 < fs_19.length ∧ zbo x4 ∧ ∀ g_20 : zG, g_20 = zSo g_18 8 a0 (fs_19.set 4 (.int x4)) → ∃ (fs_21 : List Value) (a_22 : Nat), zGo g_20 8 a0 = some fs_21 ∧ fs_21[1]? = some (.ref a_22) ∧ zIs g_20 7 a2 ∧ zCal X d yX7_collect wX7_collect [.ref a2, .ref a_22] g_20 (fun r g_23 => r = none ∧ zGz g_23 + 1 + 4 ≤ zz X ∧ ∀ a_24 : Nat, zFr g_23 a_24 → ∀ g_25 : zG, g_25 = zSz (zSo g_23 9 a_24 [.null, .null, .null, .null]) (zGz g_23 + 1 + 4) → ∃ (fs_26 : List Value) (a_27 : Nat), zGo g_25 8 a0 = some fs_26 ∧ fs_26[1]? = some (.ref a_27) ∧ zCal X d yX9_init wX9_init [.ref a_24, .ref a1, .ref a_27] g_25 (fun r g_28 => r = none ∧ ∃ (fs_29 : List Value), zGo g_28 8 a0 = some fs_29 ∧ 2 < fs_29.length ∧ ∀ g_30 : zG, g_30 = zSo g_28 8 a0 (fs_29.set 2 (.ref a_24)) → K none g_30) KX) KX) KX) KX) : zCal X (d + 1) yX8_init wX8_init [.ref a0, .ref a1, .ref a2, .int x3, .int x4] g K KX := by
  refine z_enter hok pn_X8 (Nat.le_of_ble_eq_true rfl) (fun E C hQ => ?_)
  have C : zC X (d + 1) E RX8 cX8_init 5 none "<init>" := C
  show GW X E 5 g 0 [(0, .ref a0), (1, .ref a1), (2, .ref a2), (3, .int x3), (4, .int x4)] []
  intro H locs ls hR hS hl
  refine lv_aload_n C.x C.b dX8_init_0 rfl (lv_at hl 0 rfl) ?_
  refine lv_aload_n C.x C.b dX8_init_1 rfl (lv_at hl 1 rfl) ?_
  obtain ⟨fs_1, q1, q2, h⟩ := h
  refine z_putF C hR hS q1 rfl (ci := 8) rfl in_X8 tyX8 tyX8_ok nmX8 7 (by decide) q1446 (fun _ h => h) rfl rfl rfl ⟨rfl, rfl⟩ q2 dX8_init_2 (fun H locs hR hS => ?_)
  have h := h _ rfl
  generalize zSo g 8 a0 (fs_1.set 7 (.ref a1)) = g_2 at h hR
  refine lv_aload_n C.x C.b dX8_init_5 rfl (lv_at hl 0 rfl) ?_
  refine z_objInit C hl q1398 (Nat.le_of_ble_eq_true rfl) dX8_init_6 ?_
  refine lv_aload_n C.x C.b dX8_init_9 rfl (lv_at hl 0 rfl) ?_
  obtain ⟨k_5, q0, q1, h⟩ := h
  refine z_new C hR hS k_5 q0 (ci := 0) rfl in_J2 tyJ2 tyJ2_ok q1399 q119 q76 (fs := [.int 0, .null, .int 0]) zdf_J2 q1 dX8_init_10 (fun a_3 hf H hR hS => ?_)
  have h := h a_3 hf _ rfl
  generalize zSz (zSo g_2 k_5 a_3 [.int 0, .null, .int 0]) (zGz g_2 + 1 + 3) = g_4 at h hR
  refine lv_dup C.x C.b dX8_init_13 rfl ?_
  refine z_callI C hR hS hl (n := 0) (y := yJ2_init) (bytes := cJ2_init) (maxL := 1) (As := []) (rest := [.ref a_3, .ref a0]) (lw_meth q122) q76 q1400 q121 rfl hdS_J2_init (by decide) rfl rfl (Nat.le_of_ble_eq_true rfl) dX8_init_14 h (fun r g_6 hk_ => ?_) (fun x g1 h => z_out C hQ h)
  clear h; obtain ⟨rfl, h⟩ := hk_
  show GW X E 5 g_6 17 [(0, .ref a0), (1, .ref a1), (2, .ref a2), (3, .int x3), (4, .int x4)] [.ref a_3, .ref a0]
  intro H locs ls hR hS hl
  obtain ⟨fs_7, q1, q2, h⟩ := h
  refine z_putF C hR hS q1 rfl (ci := 8) rfl in_X8 tyX8 tyX8_ok nmX8 1 (by decide) q1436 (fun _ h => h) rfl rfl rfl ⟨rfl, rfl⟩ q2 dX8_init_17 (fun H locs hR hS => ?_)
  have h := h _ rfl
  generalize zSo g_6 8 a0 (fs_7.set 1 (.ref a_3)) = g_8 at h hR
  refine lv_aload_n C.x C.b dX8_init_20 rfl (lv_at hl 0 rfl) ?_
  obtain ⟨k_11, q0, q1, h⟩ := h
  refine z_new C hR hS k_11 q0 (ci := 0) rfl in_J2 tyJ2 tyJ2_ok q1399 q119 q76 (fs := [.int 0, .null, .int 0]) zdf_J2 q1 dX8_init_21 (fun a_9 hf H hR hS => ?_)
  have h := h a_9 hf _ rfl
  generalize zSz (zSo g_8 k_11 a_9 [.int 0, .null, .int 0]) (zGz g_8 + 1 + 3) = g_10 at h hR
  refine lv_dup C.x C.b dX8_init_24 rfl ?_
  refine z_callI C hR hS hl (n := 0) (y := yJ2_init) (bytes := cJ2_init) (maxL := 1) (As := []) (rest := [.ref a_9, .ref a0]) (lw_meth q122) q76 q1400 q121 rfl hdS_J2_init (by decide) rfl rfl (Nat.le_of_ble_eq_true rfl) dX8_init_25 h (fun r g_12 hk_ => ?_) (fun x g1 h => z_out C hQ h)
  clear h; obtain ⟨rfl, h⟩ := hk_
  show GW X E 5 g_12 28 [(0, .ref a0), (1, .ref a1), (2, .ref a2), (3, .int x3), (4, .int x4)] [.ref a_9, .ref a0]
  intro H locs ls hR hS hl
  obtain ⟨fs_13, q1, q2, h⟩ := h
  refine z_putF C hR hS q1 rfl (ci := 8) rfl in_X8 tyX8 tyX8_ok nmX8 5 (by decide) q1442 (fun _ h => h) rfl rfl rfl ⟨rfl, rfl⟩ q2 dX8_init_28 (fun H locs hR hS => ?_)
  have h := h _ rfl
  generalize zSo g_12 8 a0 (fs_13.set 5 (.ref a_9)) = g_14 at h hR
  refine lv_aload_n C.x C.b dX8_init_31 rfl (lv_at hl 0 rfl) ?_
  refine lv_aload_n C.x C.b dX8_init_32 rfl (lv_at hl 2 rfl) ?_
  obtain ⟨fs_15, q1, q2, h⟩ := h
  refine z_putF C hR hS q1 rfl (ci := 8) rfl in_X8 tyX8 tyX8_ok nmX8 0 (by decide) q1434 (fun _ h => h) rfl rfl rfl ⟨rfl, rfl⟩ q2 dX8_init_33 (fun H locs hR hS => ?_)
  have h := h _ rfl
  generalize zSo g_14 8 a0 (fs_15.set 0 (.ref a2)) = g_16 at h hR
  refine lv_aload_n C.x C.b dX8_init_36 rfl (lv_at hl 0 rfl) ?_
  refine lv_iload_n C.x C.b dX8_init_37 rfl (lv_at hl 3 rfl) ?_
  obtain ⟨fs_17, q1, q2, q3, h⟩ := h
  refine z_putF C hR hS q1 rfl (ci := 8) rfl in_X8 tyX8 tyX8_ok nmX8 3 (by decide) q1439 (fun _ h => h) rfl rfl rfl (zbo_f q3) q2 dX8_init_38 (fun H locs hR hS => ?_)
  have h := h _ rfl
  generalize zSo g_16 8 a0 (fs_17.set 3 (.int x3)) = g_18 at h hR
  refine lv_aload_n C.x C.b dX8_init_41 rfl (lv_at hl 0 rfl) ?_
  refine lv_iload C.x C.b dX8_init_42 (lv_at hl 4 rfl) ?_
  obtain ⟨fs_19, q1, q2, q3, h⟩ := h
  refine z_putF C hR hS q1 rfl (ci := 8) rfl in_X8 tyX8 tyX8_ok nmX8 4 (by decide) q1440 (fun _ h => h) rfl rfl rfl (zbo_f q3) q2 dX8_init_44 (fun H locs hR hS => ?_)
  have h := h _ rfl
  generalize zSo g_18 8 a0 (fs_19.set 4 (.int x4)) = g_20 at h hR
  refine lv_aload_n C.x C.b dX8_init_47 rfl (lv_at hl 2 rfl) ?_
  refine lv_aload_n C.x C.b dX8_init_48 rfl (lv_at hl 0 rfl) ?_
  obtain ⟨fs_21, a_22, q1, q2, h⟩ := h
  refine z_get C hR q1 rfl (ci := 8) rfl in_X8 1 (by decide) q1436 (fun _ h => h) q2 dX8_init_49 ?_
  refine z_callV C hR hS hl (n := 1) (C1 := RX7) (T := TX7) (N := 7) (ci := 7) (y := yX7_collect) (bytes := cX7_collect) (maxL := 2) (rt := none) (As := [.ref a_22]) (rest := []) h.1 rfl (lw_V q1401 q1402 q1403 q106 q1404) hdV_X7_collect (by decide) rfl rfl (Nat.le_of_ble_eq_true rfl) dX8_init_52 h.2 (fun r g_23 hk_ => ?_) (fun x g1 h => z_out C hQ h)
  clear h; obtain ⟨rfl, h⟩ := hk_
  show GW X E 5 g_23 55 [(0, .ref a0), (1, .ref a1), (2, .ref a2), (3, .int x3), (4, .int x4)] []
  intro H locs ls hR hS hl
  refine lv_aload_n C.x C.b dX8_init_55 rfl (lv_at hl 0 rfl) ?_
  obtain ⟨q1, h⟩ := h
  refine z_new C hR hS 9 rfl (ci := 9) rfl in_X9 tyX9 tyX9_ok q1410 q477 q108 (fs := [.null, .null, .null, .null]) zdf_X9 q1 dX8_init_56 (fun a_24 hf H hR hS => ?_)
  have h := h a_24 hf _ rfl
  generalize zSz (zSo g_23 9 a_24 [.null, .null, .null, .null]) (zGz g_23 + 1 + 4) = g_25 at h hR
  refine lv_dup C.x C.b dX8_init_59 rfl ?_
  refine lv_aload_n C.x C.b dX8_init_60 rfl (lv_at hl 1 rfl) ?_
  refine lv_aload_n C.x C.b dX8_init_61 rfl (lv_at hl 0 rfl) ?_
  obtain ⟨fs_26, a_27, q1, q2, h⟩ := h
  refine z_get C hR q1 rfl (ci := 8) rfl in_X8 1 (by decide) q1436 (fun _ h => h) q2 dX8_init_62 ?_
  refine z_callI C hR hS hl (n := 2) (y := yX9_init) (bytes := cX9_init) (maxL := 3) (As := [.ref a1, .ref a_27]) (rest := [.ref a_24, .ref a0]) (lw_meth q1413) q108 q1411 q1412 rfl hdS_X9_init (by decide) rfl rfl (Nat.le_of_ble_eq_true rfl) dX8_init_65 h (fun r g_28 hk_ => ?_) (fun x g1 h => z_out C hQ h)
  clear h; obtain ⟨rfl, h⟩ := hk_
  show GW X E 5 g_28 68 [(0, .ref a0), (1, .ref a1), (2, .ref a2), (3, .int x3), (4, .int x4)] [.ref a_24, .ref a0]
  intro H locs ls hR hS hl
  obtain ⟨fs_29, q1, q2, h⟩ := h
  refine z_putF C hR hS q1 rfl (ci := 8) rfl in_X8 tyX8 tyX8_ok nmX8 2 (by decide) q1438 (fun _ h => h) rfl rfl rfl ⟨rfl, rfl⟩ q2 dX8_init_68 (fun H locs hR hS => ?_)
  have h := h _ rfl
  generalize zSo g_28 8 a0 (fs_29.set 2 (.ref a_24)) = g_30 at h hR
  exact z_vret C hQ dX8_init_71 h H locs ls hR hS hl
set_option maxHeartbeats 4000000 in
theorem mX10_init {X : zX} {d : Nat} {g : zG} {K : Option Value → zG → Prop} {KX : String → zG → Prop} (hok : zOk X) (a0 : Nat) (a1 : Nat) (r2 : Option Nat) (r3 : Option Nat) (x4 : Int32) (h : ∃ (fs_1 : List Value), zGo g 10 a0 = some fs_1 ∧ 6 < fs_1.length ∧ ∀ g_2 : zG, g_2 = zSo g 10 a0 (fs_1.set 6 (.ref a1)) → ∃ k_5 : Nat, zkc k_5 = 0 ∧ zGz g_2 + 1 + 3 ≤ zz X ∧ ∀ a_3 : Nat, zFr g_2 a_3 → ∀ g_4 : zG, g_4 = zSz (zSo g_2 k_5 a_3 [.int 0, .null, .int 0]) (zGz g_2 + 1 + 3) → zCal X d yJ2_init wJ2_init [.ref a_3] g_4 (fun r g_6 => r = none ∧ ∃ (fs_7 : List Value), zGo g_6 10 a0 = some fs_7 ∧ 0 < fs_7.length ∧ ∀ g_8 : zG, g_8 = zSo g_6 10 a0 (fs_7.set 0 (.ref a_3)) → ∃ (fs_9 : List Value), zGo g_8 10 a0 = some fs_9 ∧ 1 < fs_9.length ∧ ∀ g_10 : zG, g_10 = zSo g_8 10 a0 (fs_9.set 1 (va_rf r2)) → ∃ (fs_11 : List Value), zGo g_10 10 a0 = some fs_11 ∧ 2 < fs_11.length ∧ ∀ g_12 : zG, g_12 = zSo g_10 10 a0 (fs_11.set 2 (va_rf r3)) → ∃ (fs_13 : List Value), zGo g_12 10 a0 = some fs_13 ∧ 3 < fs_13.length ∧ ∀ g_14 : zG, g_14 = zSo g_12 10 a0 (fs_13.set 3 (.int x4)) → K none g_14) KX) : zCal X (d + 1) yX10_init wX10_init [.ref a0, .ref a1, va_rf r2, va_rf r3, .int x4] g K KX := by
  refine z_enter hok pn_X10 (by simp [lg_sl, zrf_cat, zc_r, zc_i, zc_n, zc_l]) (fun E C hQ => ?_)
  have C : zC X (d + 1) E RX10 cX10_init 5 none "<init>" := C
  rw [show lv_args 0 [.ref a0, .ref a1, va_rf r2, va_rf r3, .int x4] = [(0, .ref a0), (1, .ref a1), (2, va_rf r2), (3, va_rf r3), (4, .int x4)] by simp [lv_args, zrf_cat, zc_r, zc_i, zc_n, zc_l]]
  intro H locs ls hR hS hl
  refine lv_aload_n C.x C.b dX10_init_0 rfl (lv_at hl 0 rfl) ?_
  refine lv_aload_n C.x C.b dX10_init_1 rfl (lv_at hl 1 rfl) ?_
  obtain ⟨fs_1, q1, q2, h⟩ := h
  refine z_putF C hR hS q1 rfl (ci := 10) rfl in_X10 tyX10 tyX10_ok nmX10 6 (by decide) q425 (fun _ h => h) rfl rfl rfl ⟨rfl, rfl⟩ q2 dX10_init_2 (fun H locs hR hS => ?_)
  have h := h _ rfl
  generalize zSo g 10 a0 (fs_1.set 6 (.ref a1)) = g_2 at h hR
  refine lv_aload_n C.x C.b dX10_init_5 rfl (lv_at hl 0 rfl) ?_
  refine z_objInit C hl q414 (Nat.le_of_ble_eq_true rfl) dX10_init_6 ?_
  refine lv_aload_n C.x C.b dX10_init_9 rfl (lv_at hl 0 rfl) ?_
  obtain ⟨k_5, q0, q1, h⟩ := h
  refine z_new C hR hS k_5 q0 (ci := 0) rfl in_J2 tyJ2 tyJ2_ok q415 q119 q76 (fs := [.int 0, .null, .int 0]) zdf_J2 q1 dX10_init_10 (fun a_3 hf H hR hS => ?_)
  have h := h a_3 hf _ rfl
  generalize zSz (zSo g_2 k_5 a_3 [.int 0, .null, .int 0]) (zGz g_2 + 1 + 3) = g_4 at h hR
  refine lv_dup C.x C.b dX10_init_13 rfl ?_
  refine z_callI C hR hS hl (n := 0) (y := yJ2_init) (bytes := cJ2_init) (maxL := 1) (As := []) (rest := [.ref a_3, .ref a0]) (lw_meth q122) q76 q416 q121 rfl hdS_J2_init (by decide) rfl rfl (Nat.le_of_ble_eq_true rfl) dX10_init_14 h (fun r g_6 hk_ => ?_) (fun x g1 h => z_out C hQ h)
  clear h; obtain ⟨rfl, h⟩ := hk_
  show GW X E 5 g_6 17 [(0, .ref a0), (1, .ref a1), (2, va_rf r2), (3, va_rf r3), (4, .int x4)] [.ref a_3, .ref a0]
  intro H locs ls hR hS hl
  obtain ⟨fs_7, q1, q2, h⟩ := h
  refine z_putF C hR hS q1 rfl (ci := 10) rfl in_X10 tyX10 tyX10_ok nmX10 0 (by decide) q417 (fun _ h => h) rfl rfl rfl ⟨rfl, rfl⟩ q2 dX10_init_17 (fun H locs hR hS => ?_)
  have h := h _ rfl
  generalize zSo g_6 10 a0 (fs_7.set 0 (.ref a_3)) = g_8 at h hR
  refine lv_aload_n C.x C.b dX10_init_20 rfl (lv_at hl 0 rfl) ?_
  refine z_aload_n C.x C.b dX10_init_21 rfl (lv_at hl 2 rfl) ?_
  obtain ⟨fs_9, q1, q2, h⟩ := h
  refine z_putF C hR hS q1 rfl (ci := 10) rfl in_X10 tyX10 tyX10_ok nmX10 1 (by decide) q418 (fun _ h => h) rfl rfl rfl (zrf_o _) q2 dX10_init_22 (fun H locs hR hS => ?_)
  have h := h _ rfl
  generalize zSo g_8 10 a0 (fs_9.set 1 (va_rf r2)) = g_10 at h hR
  refine lv_aload_n C.x C.b dX10_init_25 rfl (lv_at hl 0 rfl) ?_
  refine z_aload_n C.x C.b dX10_init_26 rfl (lv_at hl 3 rfl) ?_
  obtain ⟨fs_11, q1, q2, h⟩ := h
  refine z_putF C hR hS q1 rfl (ci := 10) rfl in_X10 tyX10 tyX10_ok nmX10 2 (by decide) q419 (fun _ h => h) rfl rfl rfl (zrf_o _) q2 dX10_init_27 (fun H locs hR hS => ?_)
  have h := h _ rfl
  generalize zSo g_10 10 a0 (fs_11.set 2 (va_rf r3)) = g_12 at h hR
  refine lv_aload_n C.x C.b dX10_init_30 rfl (lv_at hl 0 rfl) ?_
  refine lv_iload C.x C.b dX10_init_31 (lv_at hl 4 rfl) ?_
  obtain ⟨fs_13, q1, q2, h⟩ := h
  refine z_putF C hR hS q1 rfl (ci := 10) rfl in_X10 tyX10 tyX10_ok nmX10 3 (by decide) q420 (fun _ h => h) rfl rfl rfl ⟨rfl, rfl⟩ q2 dX10_init_33 (fun H locs hR hS => ?_)
  have h := h _ rfl
  generalize zSo g_12 10 a0 (fs_13.set 3 (.int x4)) = g_14 at h hR
  exact z_vret C hQ dX10_init_36 h H locs ls hR hS hl
theorem hdF_J2_contains : (yJ2_contains.name = (⟨"java/util/List", "contains", "(Ljava/lang/Object;)Z"⟩ : MethodName).name ∧ yJ2_contains.desc = (⟨"java/util/List", "contains", "(Ljava/lang/Object;)Z"⟩ : MethodName).desc) ∧ (⟨"java/util/List", "contains", "(Ljava/lang/Object;)Z"⟩ : MethodName).cls ≠ "java/lang/invoke/MethodHandle" ∧ (⟨"java/util/List", "contains", "(Ljava/lang/Object;)Z"⟩ : MethodName).cls ≠ "java/lang/invoke/VarHandle" ∧ (parseMethodDescriptor (⟨"java/util/List", "contains", "(Ljava/lang/Object;)Z"⟩ : MethodName).desc).map (fun d => d.parameters.length) = some 1 := by decide +kernel
theorem hdF_J2_remove : (yJ2_remove.name = (⟨"java/util/List", "remove", "(I)Ljava/lang/Object;"⟩ : MethodName).name ∧ yJ2_remove.desc = (⟨"java/util/List", "remove", "(I)Ljava/lang/Object;"⟩ : MethodName).desc) ∧ (⟨"java/util/List", "remove", "(I)Ljava/lang/Object;"⟩ : MethodName).cls ≠ "java/lang/invoke/MethodHandle" ∧ (⟨"java/util/List", "remove", "(I)Ljava/lang/Object;"⟩ : MethodName).cls ≠ "java/lang/invoke/VarHandle" ∧ (parseMethodDescriptor (⟨"java/util/List", "remove", "(I)Ljava/lang/Object;"⟩ : MethodName).desc).map (fun d => d.parameters.length) = some 1 := by decide +kernel
theorem hdV_X10_go : yX10_go.cls = RX10 ∧ yX10_go.cls ≠ "java/lang/invoke/MethodHandle" ∧ yX10_go.cls ≠ "java/lang/invoke/VarHandle" ∧ (parseMethodDescriptor yX10_go.desc).map (fun d => d.parameters.length) = some 0 := by decide +kernel
theorem hdV_X8_answerFor : yX8_answerFor.cls = RX8 ∧ yX8_answerFor.cls ≠ "java/lang/invoke/MethodHandle" ∧ yX8_answerFor.cls ≠ "java/lang/invoke/VarHandle" ∧ (parseMethodDescriptor yX8_answerFor.desc).map (fun d => d.parameters.length) = some 3 := by decide +kernel
set_option maxHeartbeats 4000000 in
theorem bX10_go_109 {X : zX} {d : Nat} {E : zM} {K : Option Value → zG → Prop} {KX : String → zG → Prop} (C : zC X (d + 1) E RX10 cX10_go 6 none "go") (hQ : zQ X E K KX) (g : zG) (a0 : Nat) (x1 : Int32) (x2 : Int32) (h : (4 ≤ x2 → K none g) ∧ (¬ 4 ≤ x2 → ∃ (fs_1 : List Value) (v_2 : Int32), zGo g 10 a0 = some fs_1 ∧ fs_1[4]? = some (.int v_2) ∧ (120 < v_2 → K none g) ∧ (¬ 120 < v_2 → ∃ (fs_3 : List Value) (a_4 : Nat), zGo g 10 a0 = some fs_3 ∧ fs_3[6]? = some (.ref a_4) ∧ ∃ (fs_5 : List Value) (a_6 : Nat), zGo g 1 a_4 = some fs_5 ∧ fs_5[3]? = some (.ref a_6) ∧ zIs g 0 a_6 ∧ zCal X d yJ2_size wJ2_size [.ref a_6] g (fun r g_7 => ∃ v_8 : Int32, r = some (.int v_8) ∧ GW X E 6 g_7 141 [(0, .ref a0), (1, .int x1), (2, .int x2), (3, .null), (4, .int (v_8 - 1))] []) KX))) : GW X E 6 g 109 [(0, .ref a0), (1, .int x1), (2, .int x2)] [] := by
  intro H locs ls hR hS hl
  refine lv_iload_n C.x C.b dX10_go_109 rfl (lv_at hl 2 rfl) ?_
  refine lv_iconst (v := 4) C.x C.b dX10_go_110 (by decide) ?_
  obtain ⟨h1, h2⟩ := h
  refine lv_icmp_ge (tgt := 256) C.x C.b dX10_go_111 (by decide) (fun c => ?_) (fun c => ?_)
  · have h := h1 c; clear h1 h2
    exact z_vret C hQ dX10_go_256 h H locs ls hR hS hl
  · have h := h2 c; clear h1 h2
    refine lv_aload_n C.x C.b dX10_go_114 rfl (lv_at hl 0 rfl) ?_
    obtain ⟨fs_1, v_2, q1, q2, h⟩ := h
    refine z_get C hR q1 rfl (ci := 10) rfl in_X10 4 (by decide) q421 (fun _ h => h) q2 dX10_go_115 ?_
    refine lv_bipush (v := 120) C.x C.b dX10_go_118 (by decide) ?_
    obtain ⟨h1, h2⟩ := h
    refine lv_icmp_gt (tgt := 256) C.x C.b dX10_go_120 (by decide) (fun c => ?_) (fun c => ?_)
    · have h := h1 c; clear h1 h2
      exact z_vret C hQ dX10_go_256 h H locs ls hR hS hl
    · have h := h2 c; clear h1 h2
      refine lv_null C.x C.b dX10_go_123 ?_
      refine lv_astore_nN (lv' := [(3, .null), (0, .ref a0), (1, .int x1), (2, .int x2)]) C.x C.b dX10_go_124 rfl hl (by decide) rfl (fun ls hl => ?_)
      refine lv_aload_n C.x C.b dX10_go_125 rfl (lv_at hl 1 rfl) ?_
      obtain ⟨fs_3, a_4, q1, q2, h⟩ := h
      refine z_get C hR q1 rfl (ci := 10) rfl in_X10 6 (by decide) q425 (fun _ h => h) q2 dX10_go_126 ?_
      obtain ⟨fs_5, a_6, q1, q2, h⟩ := h
      refine z_getN C hR q1 rfl (ci := 1) rfl in_X1 3 (by decide) q247 (fun _ h => h) q2 dX10_go_129 ?_
      refine z_callF C hR hS hl (n := 0) (C1 := RJ2) (T := TJ2) (N := 3) (ci := 0) (y := yJ2_size) (bytes := cJ2_size) (maxL := 1) (rt := (some .int)) (As := []) (rest := []) (x := ⟨"java/util/List", "size", "()I"⟩) h.1 rfl (lw_F q446 q294 q296 q76 q298) ⟨C.ok.2.1 _ q293, C.ok.2.1 _ q292, C.ok.2.1 _ q297, C.ok.2.1 _ q295, C.ok.2.1 _ q174⟩ hdF_J2_size (by decide) rfl rfl (Nat.le_of_ble_eq_true rfl) dX10_go_132 h.2 (fun r g_7 hk_ => ?_) (fun x g1 h => z_out C hQ h)
      clear h; obtain ⟨v_8, rfl, h⟩ := hk_
      show GW X E 6 g_7 137 [(3, .null), (0, .ref a0), (1, .int x1), (2, .int x2)] [.int v_8]
      intro H locs ls hR hS hl
      refine lv_iconst (v := 1) C.x C.b dX10_go_137 (by decide) ?_
      refine lv_isub C.x C.b dX10_go_138 ?_
      refine lv_istore (lv' := [(4, .int (v_8 - 1)), (3, .null), (0, .ref a0), (1, .int x1), (2, .int x2)]) C.x C.b dX10_go_139 hl (by decide) rfl (fun ls hl => ?_)
      exact h H locs ls hR hS (lv_sub hl [2, 3, 4, 1, 0] rfl)
set_option maxHeartbeats 4000000 in
theorem bX10_go_141 {X : zX} {d : Nat} {E : zM} {K : Option Value → zG → Prop} {KX : String → zG → Prop} (C : zC X (d + 1) E RX10 cX10_go 6 none "go") (hQ : zQ X E K KX) (g : zG) (a0 : Nat) (x1 : Int32) (x2 : Int32) (r3 : Option Nat) (x4 : Int32) (h : (x4 < 0 → (r3 = none → GW X E 6 g 109 [(0, .ref a0), (1, .int x1), (2, .int (x2 + 1))] []) ∧ (∀ a_1 : Nat, r3 = some a_1 → ∃ (fs_2 : List Value) (a_3 : Nat), zGo g 10 a0 = some fs_2 ∧ fs_2[0]? = some (.ref a_3) ∧ zIs g 0 a_3 ∧ zCal X d yJ2_add wJ2_add [.ref a_3, .ref a_1] g (fun r g_4 => ∃ v_5 : Int32, r = some (.int v_5) ∧ zbo v_5 ∧ zIs g_4 10 a0 ∧ zCal X d yX10_go wX10_go [.ref a0] g_4 (fun r g_6 => r = none ∧ ∃ (fs_7 : List Value) (a_8 : Nat), zGo g_6 10 a0 = some fs_7 ∧ fs_7[0]? = some (.ref a_8) ∧ ∃ (fs_9 : List Value) (a_10 : Nat), zGo g_6 10 a0 = some fs_9 ∧ fs_9[0]? = some (.ref a_10) ∧ zIs g_6 0 a_10 ∧ zCal X d yJ2_size wJ2_size [.ref a_10] g_6 (fun r g_11 => ∃ v_12 : Int32, r = some (.int v_12) ∧ zIs g_11 0 a_8 ∧ zCal X d yJ2_remove wJ2_remove [.ref a_8, .int (v_12 - 1)] g_11 (fun r g_13 => ∃ r_14 : Option Nat, r = some (va_rf r_14) ∧ GW X E 6 g_13 109 [(0, .ref a0), (1, .int x1), (2, .int (x2 + 1))] []) KX) KX) KX) KX)) ∧ (¬ x4 < 0 → ∃ (fs_15 : List Value) (a_16 : Nat), zGo g 10 a0 = some fs_15 ∧ fs_15[6]? = some (.ref a_16) ∧ ∃ (fs_17 : List Value) (a_18 : Nat), zGo g 1 a_16 = some fs_17 ∧ fs_17[3]? = some (.ref a_18) ∧ zIs g 0 a_18 ∧ zCal X d yJ2_get wJ2_get [.ref a_18, .int x4] g (fun r g_19 => ∃ r_20 : Option Nat, r = some (va_rf r_20) ∧ ∃ a_21 : Nat, r_20 = some a_21 ∧ zIs g_19 4 a_21 ∧ ∃ (fs_22 : List Value) (v_23 : Int32), zGo g_19 4 a_21 = some fs_22 ∧ fs_22[1]? = some (.int v_23) ∧ (¬ v_23 = x1 → GW X E 6 g_19 141 [(0, .ref a0), (1, .int x1), (2, .int x2), (3, va_rf r3), (4, .int (x4 + (-1)))] []) ∧ (v_23 = x1 → ∃ (fs_24 : List Value) (v_25 : Int32), zGo g_19 4 a_21 = some fs_24 ∧ fs_24[2]? = some (.int v_25) ∧ (¬ v_25 = x2 → GW X E 6 g_19 141 [(0, .ref a0), (1, .int x1), (2, .int x2), (3, va_rf r3), (4, .int (x4 + (-1)))] []) ∧ (v_25 = x2 → ∃ (fs_26 : List Value) (a_27 : Nat), zGo g_19 10 a0 = some fs_26 ∧ fs_26[0]? = some (.ref a_27) ∧ zIs g_19 0 a_27 ∧ zCal X d yJ2_contains wJ2_contains [.ref a_27, .ref a_21] g_19 (fun r g_28 => ∃ v_29 : Int32, r = some (.int v_29) ∧ zbo v_29 ∧ (¬ v_29 = 0 → GW X E 6 g_28 141 [(0, .ref a0), (1, .int x1), (2, .int x2), (3, va_rf r3), (4, .int (x4 + (-1)))] []) ∧ (v_29 = 0 → GW X E 6 g_28 141 [(0, .ref a0), (1, .int x1), (2, .int x2), (3, .ref a_21), (4, .int (x4 + (-1)))] [])) KX))) KX)) : GW X E 6 g 141 [(0, .ref a0), (1, .int x1), (2, .int x2), (3, va_rf r3), (4, .int x4)] [] := by
  intro H locs ls hR hS hl
  refine lv_iload C.x C.b dX10_go_141 (lv_at hl 4 rfl) ?_
  obtain ⟨h1, h2⟩ := h
  refine lv_if_lt (tgt := 210) C.x C.b dX10_go_143 (by decide) (fun c => ?_) (fun c => ?_)
  · have h := h1 c; clear h1 h2
    refine z_aload_n C.x C.b dX10_go_210 rfl (lv_at hl 3 rfl) ?_
    obtain ⟨h1, h2⟩ := h
    cases r3 with
    | none =>
      have h := h1 rfl; clear h1 h2
      have hl : lv_has ls 6 [(0, .ref a0), (1, .int x1), (2, .int x2), (3, .null), (4, .int x4)] := by assumption
      refine lv_ifnullN (tgt := 250) C.x C.b dX10_go_211 (by decide) ?_
      refine lv_iinc (v := x2 + 1) (lv' := [(2, .int (x2 + 1)), (0, .ref a0), (1, .int x1), (3, .null), (4, .int x4)]) C.x C.b dX10_go_250 hl (k := 2) rfl rfl (by decide) rfl (fun ls hl => ?_)
      refine lv_goto (tgt := 109) C.x C.b dX10_go_253 (by decide) ?_
      exact h H locs ls hR hS (lv_sub hl [1, 2, 0] rfl)
    | some a_1 =>
      have h := h2 _ rfl; clear h1 h2
      have hl : lv_has ls 6 [(0, .ref a0), (1, .int x1), (2, .int x2), (3, .ref a_1), (4, .int x4)] := by assumption
      refine lv_ifnull C.x C.b dX10_go_211 ?_
      refine lv_aload_n C.x C.b dX10_go_214 rfl (lv_at hl 0 rfl) ?_
      obtain ⟨fs_2, a_3, q1, q2, h⟩ := h
      refine z_get C hR q1 rfl (ci := 10) rfl in_X10 0 (by decide) q417 (fun _ h => h) q2 dX10_go_215 ?_
      refine lv_aload_n C.x C.b dX10_go_218 rfl (lv_at hl 3 rfl) ?_
      refine z_callF C hR hS hl (n := 1) (C1 := RJ2) (T := TJ2) (N := 3) (ci := 0) (y := yJ2_add) (bytes := cJ2_add) (maxL := 2) (rt := (some .boolean)) (As := [.ref a_1]) (rest := []) (x := ⟨"java/util/List", "add", "(Ljava/lang/Object;)Z"⟩) h.1 rfl (lw_F q597 q175 q177 q76 q179) ⟨C.ok.2.1 _ q173, C.ok.2.1 _ q172, C.ok.2.1 _ q178, C.ok.2.1 _ q176, C.ok.2.1 _ q174⟩ hdF_J2_add (by decide) rfl rfl (Nat.le_of_ble_eq_true rfl) dX10_go_219 h.2 (fun r g_4 hk_ => ?_) (fun x g1 h => z_out C hQ h)
      clear h; obtain ⟨v_5, rfl, zb_, h⟩ := hk_
      show GW X E 6 g_4 224 [(0, .ref a0), (1, .int x1), (2, .int x2), (3, .ref a_1), (4, .int x4)] [.int v_5]
      intro H locs ls hR hS hl
      refine lv_pop C.x C.b dX10_go_224 rfl ?_
      refine lv_aload_n C.x C.b dX10_go_225 rfl (lv_at hl 0 rfl) ?_
      refine z_callV C hR hS hl (n := 0) (C1 := RX10) (T := TX10) (N := 7) (ci := 10) (y := yX10_go) (bytes := cX10_go) (maxL := 6) (rt := none) (As := []) (rest := []) h.1 rfl (lw_V q598 q442 q443 q109 q444) hdV_X10_go (by decide) rfl rfl (Nat.le_of_ble_eq_true rfl) dX10_go_226 h.2 (fun r g_6 hk_ => ?_) (fun x g1 h => z_out C hQ h)
      clear h; obtain ⟨rfl, h⟩ := hk_
      show GW X E 6 g_6 229 [(0, .ref a0), (1, .int x1), (2, .int x2), (3, .ref a_1), (4, .int x4)] []
      intro H locs ls hR hS hl
      refine lv_aload_n C.x C.b dX10_go_229 rfl (lv_at hl 0 rfl) ?_
      obtain ⟨fs_7, a_8, q1, q2, h⟩ := h
      refine z_get C hR q1 rfl (ci := 10) rfl in_X10 0 (by decide) q417 (fun _ h => h) q2 dX10_go_230 ?_
      refine lv_aload_n C.x C.b dX10_go_233 rfl (lv_at hl 0 rfl) ?_
      obtain ⟨fs_9, a_10, q1, q2, h⟩ := h
      refine z_get C hR q1 rfl (ci := 10) rfl in_X10 0 (by decide) q417 (fun _ h => h) q2 dX10_go_234 ?_
      refine z_callF C hR hS hl (n := 0) (C1 := RJ2) (T := TJ2) (N := 3) (ci := 0) (y := yJ2_size) (bytes := cJ2_size) (maxL := 1) (rt := (some .int)) (As := []) (rest := [.ref a_8]) (x := ⟨"java/util/List", "size", "()I"⟩) h.1 rfl (lw_F q446 q294 q296 q76 q298) ⟨C.ok.2.1 _ q293, C.ok.2.1 _ q292, C.ok.2.1 _ q297, C.ok.2.1 _ q295, C.ok.2.1 _ q174⟩ hdF_J2_size (by decide) rfl rfl (Nat.le_of_ble_eq_true rfl) dX10_go_237 h.2 (fun r g_11 hk_ => ?_) (fun x g1 h => z_out C hQ h)
      clear h; obtain ⟨v_12, rfl, h⟩ := hk_
      show GW X E 6 g_11 242 [(0, .ref a0), (1, .int x1), (2, .int x2), (3, .ref a_1), (4, .int x4)] [.int v_12, .ref a_8]
      intro H locs ls hR hS hl
      refine lv_iconst (v := 1) C.x C.b dX10_go_242 (by decide) ?_
      refine lv_isub C.x C.b dX10_go_243 ?_
      refine z_callF C hR hS hl (n := 1) (C1 := RJ2) (T := TJ2) (N := 3) (ci := 0) (y := yJ2_remove) (bytes := cJ2_remove) (maxL := 4) (rt := (some (.object "java/lang/Object"))) (As := [.int (v_12 - 1)]) (rest := []) (x := ⟨"java/util/List", "remove", "(I)Ljava/lang/Object;"⟩) h.1 rfl (lw_F q600 q603 q605 q76 q607) ⟨C.ok.2.1 _ q602, C.ok.2.1 _ q601, C.ok.2.1 _ q606, C.ok.2.1 _ q604, C.ok.2.1 _ q174⟩ hdF_J2_remove (by decide) rfl rfl (Nat.le_of_ble_eq_true rfl) dX10_go_244 h.2 (fun r g_13 hk_ => ?_) (fun x g1 h => z_out C hQ h)
      clear h; obtain ⟨r_14, rfl, h⟩ := hk_
      show GW X E 6 g_13 249 [(0, .ref a0), (1, .int x1), (2, .int x2), (3, .ref a_1), (4, .int x4)] [va_rf r_14]
      intro H locs ls hR hS hl
      refine lv_pop C.x C.b dX10_go_249 (zrf_cat _) ?_
      refine lv_iinc (v := x2 + 1) (lv' := [(2, .int (x2 + 1)), (0, .ref a0), (1, .int x1), (3, .ref a_1), (4, .int x4)]) C.x C.b dX10_go_250 hl (k := 2) rfl rfl (by decide) rfl (fun ls hl => ?_)
      refine lv_goto (tgt := 109) C.x C.b dX10_go_253 (by decide) ?_
      exact h H locs ls hR hS (lv_sub hl [1, 2, 0] rfl)
  · have h := h2 c; clear h1 h2
    refine lv_aload_n C.x C.b dX10_go_146 rfl (lv_at hl 0 rfl) ?_
    obtain ⟨fs_15, a_16, q1, q2, h⟩ := h
    refine z_get C hR q1 rfl (ci := 10) rfl in_X10 6 (by decide) q425 (fun _ h => h) q2 dX10_go_147 ?_
    obtain ⟨fs_17, a_18, q1, q2, h⟩ := h
    refine z_getN C hR q1 rfl (ci := 1) rfl in_X1 3 (by decide) q247 (fun _ h => h) q2 dX10_go_150 ?_
    refine lv_iload C.x C.b dX10_go_153 (lv_at hl 4 rfl) ?_
    refine z_callF C hR hS hl (n := 1) (C1 := RJ2) (T := TJ2) (N := 3) (ci := 0) (y := yJ2_get) (bytes := cJ2_get) (maxL := 2) (rt := (some (.object "java/lang/Object"))) (As := [.int x4]) (rest := []) (x := ⟨"java/util/List", "get", "(I)Ljava/lang/Object;"⟩) h.1 rfl (lw_F q584 q381 q383 q76 q385) ⟨C.ok.2.1 _ q380, C.ok.2.1 _ q379, C.ok.2.1 _ q384, C.ok.2.1 _ q382, C.ok.2.1 _ q174⟩ hdF_J2_get (by decide) rfl rfl (Nat.le_of_ble_eq_true rfl) dX10_go_155 h.2 (fun r g_19 hk_ => ?_) (fun x g1 h => z_out C hQ h)
    clear h; obtain ⟨r_20, rfl, h⟩ := hk_
    show GW X E 6 g_19 160 [(0, .ref a0), (1, .int x1), (2, .int x2), (3, va_rf r3), (4, .int x4)] [va_rf r_20]
    intro H locs ls hR hS hl
    obtain ⟨a_21, e_, h⟩ := h; subst e_
    have hl : lv_has ls 6 [(0, .ref a0), (1, .int x1), (2, .int x2), (3, va_rf r3), (4, .int x4)] := by assumption
    show zV X E H locs (F0 (zm E) 160 ls [.ref a_21])
    refine z_castS C hR (ci := 4) (C1 := RX4) (T := TX4) (N := 7) h.1 rfl q585 dX10_go_160 ?_
    have h := h.2
    refine lv_astore (lv' := [(5, .ref a_21), (0, .ref a0), (1, .int x1), (2, .int x2), (3, va_rf r3), (4, .int x4)]) C.x C.b dX10_go_163 hl (by decide) rfl (fun ls hl => ?_)
    refine lv_aload C.x C.b dX10_go_165 (lv_at hl 0 rfl) ?_
    obtain ⟨fs_22, v_23, q1, q2, h⟩ := h
    refine z_getN C hR q1 rfl (ci := 4) rfl in_X4 1 (by decide) q786 (fun _ h => h) q2 dX10_go_167 ?_
    refine lv_iload_n C.x C.b dX10_go_170 rfl (lv_at hl 2 rfl) ?_
    obtain ⟨h1, h2⟩ := h
    refine lv_icmp_ne (tgt := 202) C.x C.b dX10_go_171 (by decide) (fun c => ?_) (fun c => ?_)
    · have h := h1 c; clear h1 h2
      refine z_aload_n C.x C.b dX10_go_202 rfl (lv_at hl 4 rfl) ?_
      refine z_astore_n (lv' := [(3, va_rf r3), (5, .ref a_21), (0, .ref a0), (1, .int x1), (2, .int x2), (4, .int x4)]) C.x C.b dX10_go_203 rfl hl (by decide) rfl (fun ls hl => ?_)
      refine lv_iinc (v := x4 + (-1)) (lv' := [(4, .int (x4 + (-1))), (3, va_rf r3), (5, .ref a_21), (0, .ref a0), (1, .int x1), (2, .int x2)]) C.x C.b dX10_go_204 hl (k := 5) rfl rfl (by decide) (by simp [zrf_cat]) (fun ls hl => ?_)
      refine lv_goto (tgt := 141) C.x C.b dX10_go_207 (by decide) ?_
      exact h H locs ls hR hS (lv_sub hl [3, 4, 5, 1, 0] rfl)
    · have h := h2 c; clear h1 h2
      refine lv_aload C.x C.b dX10_go_174 (lv_at hl 0 rfl) ?_
      obtain ⟨fs_24, v_25, q1, q2, h⟩ := h
      refine z_getN C hR q1 rfl (ci := 4) rfl in_X4 2 (by decide) q790 (fun _ h => h) q2 dX10_go_176 ?_
      refine lv_iload_n C.x C.b dX10_go_179 rfl (lv_at hl 3 rfl) ?_
      obtain ⟨h1, h2⟩ := h
      refine lv_icmp_ne (tgt := 202) C.x C.b dX10_go_180 (by decide) (fun c => ?_) (fun c => ?_)
      · have h := h1 c; clear h1 h2
        refine z_aload_n C.x C.b dX10_go_202 rfl (lv_at hl 4 rfl) ?_
        refine z_astore_n (lv' := [(3, va_rf r3), (5, .ref a_21), (0, .ref a0), (1, .int x1), (2, .int x2), (4, .int x4)]) C.x C.b dX10_go_203 rfl hl (by decide) rfl (fun ls hl => ?_)
        refine lv_iinc (v := x4 + (-1)) (lv' := [(4, .int (x4 + (-1))), (3, va_rf r3), (5, .ref a_21), (0, .ref a0), (1, .int x1), (2, .int x2)]) C.x C.b dX10_go_204 hl (k := 5) rfl rfl (by decide) (by simp [zrf_cat]) (fun ls hl => ?_)
        refine lv_goto (tgt := 141) C.x C.b dX10_go_207 (by decide) ?_
        exact h H locs ls hR hS (lv_sub hl [3, 4, 5, 1, 0] rfl)
      · have h := h2 c; clear h1 h2
        refine lv_aload_n C.x C.b dX10_go_183 rfl (lv_at hl 1 rfl) ?_
        obtain ⟨fs_26, a_27, q1, q2, h⟩ := h
        refine z_get C hR q1 rfl (ci := 10) rfl in_X10 0 (by decide) q417 (fun _ h => h) q2 dX10_go_184 ?_
        refine lv_aload C.x C.b dX10_go_187 (lv_at hl 0 rfl) ?_
        refine z_callF C hR hS hl (n := 1) (C1 := RJ2) (T := TJ2) (N := 3) (ci := 0) (y := yJ2_contains) (bytes := cJ2_contains) (maxL := 2) (rt := (some .boolean)) (As := [.ref a_21]) (rest := []) (x := ⟨"java/util/List", "contains", "(Ljava/lang/Object;)Z"⟩) h.1 rfl (lw_F q587 q590 q592 q76 q594) ⟨C.ok.2.1 _ q589, C.ok.2.1 _ q588, C.ok.2.1 _ q593, C.ok.2.1 _ q591, C.ok.2.1 _ q174⟩ hdF_J2_contains (by decide) rfl rfl (Nat.le_of_ble_eq_true rfl) dX10_go_189 h.2 (fun r g_28 hk_ => ?_) (fun x g1 h => z_out C hQ h)
        clear h; obtain ⟨v_29, rfl, zb_, h⟩ := hk_
        show GW X E 6 g_28 194 [(5, .ref a_21), (0, .ref a0), (1, .int x1), (2, .int x2), (3, va_rf r3), (4, .int x4)] [.int v_29]
        intro H locs ls hR hS hl
        obtain ⟨h1, h2⟩ := h
        refine lv_if_ne (tgt := 202) C.x C.b dX10_go_194 (by decide) (fun c => ?_) (fun c => ?_)
        · have h := h1 c; clear h1 h2
          refine z_aload_n C.x C.b dX10_go_202 rfl (lv_at hl 4 rfl) ?_
          refine z_astore_n (lv' := [(3, va_rf r3), (5, .ref a_21), (0, .ref a0), (1, .int x1), (2, .int x2), (4, .int x4)]) C.x C.b dX10_go_203 rfl hl (by decide) rfl (fun ls hl => ?_)
          refine lv_iinc (v := x4 + (-1)) (lv' := [(4, .int (x4 + (-1))), (3, va_rf r3), (5, .ref a_21), (0, .ref a0), (1, .int x1), (2, .int x2)]) C.x C.b dX10_go_204 hl (k := 5) rfl rfl (by decide) (by simp [zrf_cat]) (fun ls hl => ?_)
          refine lv_goto (tgt := 141) C.x C.b dX10_go_207 (by decide) ?_
          exact h H locs ls hR hS (lv_sub hl [3, 4, 5, 1, 0] rfl)
        · have h := h2 c; clear h1 h2
          refine lv_aload C.x C.b dX10_go_197 (lv_at hl 0 rfl) ?_
          refine lv_goto (tgt := 203) C.x C.b dX10_go_199 (by decide) ?_
          refine lv_astore_n (lv' := [(3, .ref a_21), (5, .ref a_21), (0, .ref a0), (1, .int x1), (2, .int x2), (4, .int x4)]) C.x C.b dX10_go_203 rfl hl (by decide) rfl (fun ls hl => ?_)
          refine lv_iinc (v := x4 + (-1)) (lv' := [(4, .int (x4 + (-1))), (3, .ref a_21), (5, .ref a_21), (0, .ref a0), (1, .int x1), (2, .int x2)]) C.x C.b dX10_go_204 hl (k := 5) rfl rfl (by decide) rfl (fun ls hl => ?_)
          refine lv_goto (tgt := 141) C.x C.b dX10_go_207 (by decide) ?_
          exact h H locs ls hR hS (lv_sub hl [3, 4, 5, 1, 0] rfl)
set_option maxHeartbeats 4000000 in
theorem mX10_go {X : zX} {d : Nat} {g : zG} {K : Option Value → zG → Prop} {KX : String → zG → Prop} (hok : zOk X) (a0 : Nat) (h : ∀ E : zM, zC X (d + 1) E RX10 cX10_go 6 none "go" → zQ X E K KX → ∃ (fs_1 : List Value) (a_2 : Nat), zGo g 10 a0 = some fs_1 ∧ fs_1[0]? = some (.ref a_2) ∧ zIs g 0 a_2 ∧ zCal X d yJ2_size wJ2_size [.ref a_2] g (fun r g_3 => ∃ v_4 : Int32, r = some (.int v_4) ∧ ∃ (fs_5 : List Value) (a_6 : Nat), zGo g_3 10 a0 = some fs_5 ∧ fs_5[6]? = some (.ref a_6) ∧ ∃ (fs_7 : List Value) (a_8 : Nat), zGo g_3 1 a_6 = some fs_7 ∧ fs_7[3]? = some (.ref a_8) ∧ zIs g_3 0 a_8 ∧ zCal X d yJ2_size wJ2_size [.ref a_8] g_3 (fun r g_9 => ∃ v_10 : Int32, r = some (.int v_10) ∧ (¬ v_4 = v_10 → ∃ (fs_11 : List Value) (a_12 : Nat), zGo g_9 10 a0 = some fs_11 ∧ fs_11[6]? = some (.ref a_12) ∧ ∃ (fs_13 : List Value) (a_14 : Nat), zGo g_9 1 a_12 = some fs_13 ∧ fs_13[3]? = some (.ref a_14) ∧ ∃ (fs_15 : List Value) (a_16 : Nat), zGo g_9 10 a0 = some fs_15 ∧ fs_15[0]? = some (.ref a_16) ∧ zIs g_9 0 a_16 ∧ zCal X d yJ2_size wJ2_size [.ref a_16] g_9 (fun r g_17 => ∃ v_18 : Int32, r = some (.int v_18) ∧ zIs g_17 0 a_14 ∧ zCal X d yJ2_get wJ2_get [.ref a_14, .int v_18] g_17 (fun r g_19 => ∃ r_20 : Option Nat, r = some (va_rf r_20) ∧ ∃ a_21 : Nat, r_20 = some a_21 ∧ zIs g_19 4 a_21 ∧ ∃ (fs_22 : List Value) (v_23 : Int32), zGo g_19 4 a_21 = some fs_22 ∧ fs_22[1]? = some (.int v_23) ∧ GW X E 6 g_19 109 [(0, .ref a0), (1, .int v_23), (2, .int 0)] []) KX) KX) ∧ (v_4 = v_10 → ∃ (fs_24 : List Value) (v_25 : Int32), zGo g_9 10 a0 = some fs_24 ∧ fs_24[4]? = some (.int v_25) ∧ ∃ (fs_26 : List Value), zGo g_9 10 a0 = some fs_26 ∧ 4 < fs_26.length ∧ ∀ g_27 : zG, g_27 = zSo g_9 10 a0 (fs_26.set 4 (.int (v_25 + 1))) → ∃ (fs_28 : List Value) (v_29 : Int32), zGo g_27 10 a0 = some fs_28 ∧ fs_28[5]? = some (.int v_29) ∧ ∃ (fs_30 : List Value) (r_31 : Option Nat), zGo g_27 10 a0 = some fs_30 ∧ fs_30[1]? = some (va_rf r_31) ∧ (r_31 = none → ∃ (fs_33 : List Value), zGo g_27 10 a0 = some fs_33 ∧ 5 < fs_33.length ∧ ∀ g_34 : zG, g_34 = zSo g_27 10 a0 (fs_33.set 5 (.int (v_29 + 0))) → K none g_34) ∧ (∀ a_32 : Nat, r_31 = some a_32 → ∃ (fs_35 : List Value) (r_36 : Option Nat), zGo g_27 10 a0 = some fs_35 ∧ fs_35[1]? = some (va_rf r_36) ∧ ∃ (fs_37 : List Value) (r_38 : Option Nat), zGo g_27 10 a0 = some fs_37 ∧ fs_37[2]? = some (va_rf r_38) ∧ ∃ (fs_39 : List Value) (a_40 : Nat), zGo g_27 10 a0 = some fs_39 ∧ fs_39[0]? = some (.ref a_40) ∧ ∃ a_41 : Nat, r_36 = some a_41 ∧ zIs g_27 8 a_41 ∧ zCal X d yX8_answerFor wX8_answerFor [.ref a_41, va_rf r_38, .ref a_40, .int 0] g_27 (fun r g_42 => ∃ v_43 : Int32, r = some (.int v_43) ∧ ∃ (fs_44 : List Value) (v_45 : Int32), zGo g_42 10 a0 = some fs_44 ∧ fs_44[3]? = some (.int v_45) ∧ (¬ v_43 = v_45 → ∃ (fs_46 : List Value), zGo g_42 10 a0 = some fs_46 ∧ 5 < fs_46.length ∧ ∀ g_47 : zG, g_47 = zSo g_42 10 a0 (fs_46.set 5 (.int (v_29 + 0))) → K none g_47) ∧ (v_43 = v_45 → ∃ (fs_48 : List Value), zGo g_42 10 a0 = some fs_48 ∧ 5 < fs_48.length ∧ ∀ g_49 : zG, g_49 = zSo g_42 10 a0 (fs_48.set 5 (.int (v_29 + 1))) → K none g_49)) KX))) KX) KX) : zCal X (d + 1) yX10_go wX10_go [.ref a0] g K KX := by
  refine z_enter hok pn_X10 (Nat.le_of_ble_eq_true rfl) (fun E C hQ => ?_)
  have C : zC X (d + 1) E RX10 cX10_go 6 none "go" := C
  have h := h E C hQ
  show GW X E 6 g 0 [(0, .ref a0)] []
  intro H locs ls hR hS hl
  refine lv_aload_n C.x C.b dX10_go_0 rfl (lv_at hl 0 rfl) ?_
  obtain ⟨fs_1, a_2, q1, q2, h⟩ := h
  refine z_get C hR q1 rfl (ci := 10) rfl in_X10 0 (by decide) q417 (fun _ h => h) q2 dX10_go_1 ?_
  refine z_callF C hR hS hl (n := 0) (C1 := RJ2) (T := TJ2) (N := 3) (ci := 0) (y := yJ2_size) (bytes := cJ2_size) (maxL := 1) (rt := (some .int)) (As := []) (rest := []) (x := ⟨"java/util/List", "size", "()I"⟩) h.1 rfl (lw_F q446 q294 q296 q76 q298) ⟨C.ok.2.1 _ q293, C.ok.2.1 _ q292, C.ok.2.1 _ q297, C.ok.2.1 _ q295, C.ok.2.1 _ q174⟩ hdF_J2_size (by decide) rfl rfl (Nat.le_of_ble_eq_true rfl) dX10_go_4 h.2 (fun r g_3 hk_ => ?_) (fun x g1 h => z_out C hQ h)
  clear h; obtain ⟨v_4, rfl, h⟩ := hk_
  show GW X E 6 g_3 9 [(0, .ref a0)] [.int v_4]
  intro H locs ls hR hS hl
  refine lv_aload_n C.x C.b dX10_go_9 rfl (lv_at hl 0 rfl) ?_
  obtain ⟨fs_5, a_6, q1, q2, h⟩ := h
  refine z_get C hR q1 rfl (ci := 10) rfl in_X10 6 (by decide) q425 (fun _ h => h) q2 dX10_go_10 ?_
  obtain ⟨fs_7, a_8, q1, q2, h⟩ := h
  refine z_getN C hR q1 rfl (ci := 1) rfl in_X1 3 (by decide) q247 (fun _ h => h) q2 dX10_go_13 ?_
  refine z_callF C hR hS hl (n := 0) (C1 := RJ2) (T := TJ2) (N := 3) (ci := 0) (y := yJ2_size) (bytes := cJ2_size) (maxL := 1) (rt := (some .int)) (As := []) (rest := [.int v_4]) (x := ⟨"java/util/List", "size", "()I"⟩) h.1 rfl (lw_F q446 q294 q296 q76 q298) ⟨C.ok.2.1 _ q293, C.ok.2.1 _ q292, C.ok.2.1 _ q297, C.ok.2.1 _ q295, C.ok.2.1 _ q174⟩ hdF_J2_size (by decide) rfl rfl (Nat.le_of_ble_eq_true rfl) dX10_go_16 h.2 (fun r g_9 hk_ => ?_) (fun x g1 h => z_out C hQ h)
  clear h; obtain ⟨v_10, rfl, h⟩ := hk_
  show GW X E 6 g_9 21 [(0, .ref a0)] [.int v_10, .int v_4]
  intro H locs ls hR hS hl
  obtain ⟨h1, h2⟩ := h
  refine lv_icmp_ne (tgt := 79) C.x C.b dX10_go_21 (by decide) (fun c => ?_) (fun c => ?_)
  · have h := h1 c; clear h1 h2
    refine lv_aload_n C.x C.b dX10_go_79 rfl (lv_at hl 0 rfl) ?_
    obtain ⟨fs_11, a_12, q1, q2, h⟩ := h
    refine z_get C hR q1 rfl (ci := 10) rfl in_X10 6 (by decide) q425 (fun _ h => h) q2 dX10_go_80 ?_
    obtain ⟨fs_13, a_14, q1, q2, h⟩ := h
    refine z_getN C hR q1 rfl (ci := 1) rfl in_X1 3 (by decide) q247 (fun _ h => h) q2 dX10_go_83 ?_
    refine lv_aload_n C.x C.b dX10_go_86 rfl (lv_at hl 0 rfl) ?_
    obtain ⟨fs_15, a_16, q1, q2, h⟩ := h
    refine z_get C hR q1 rfl (ci := 10) rfl in_X10 0 (by decide) q417 (fun _ h => h) q2 dX10_go_87 ?_
    refine z_callF C hR hS hl (n := 0) (C1 := RJ2) (T := TJ2) (N := 3) (ci := 0) (y := yJ2_size) (bytes := cJ2_size) (maxL := 1) (rt := (some .int)) (As := []) (rest := [.ref a_14]) (x := ⟨"java/util/List", "size", "()I"⟩) h.1 rfl (lw_F q446 q294 q296 q76 q298) ⟨C.ok.2.1 _ q293, C.ok.2.1 _ q292, C.ok.2.1 _ q297, C.ok.2.1 _ q295, C.ok.2.1 _ q174⟩ hdF_J2_size (by decide) rfl rfl (Nat.le_of_ble_eq_true rfl) dX10_go_90 h.2 (fun r g_17 hk_ => ?_) (fun x g1 h => z_out C hQ h)
    clear h; obtain ⟨v_18, rfl, h⟩ := hk_
    show GW X E 6 g_17 95 [(0, .ref a0)] [.int v_18, .ref a_14]
    intro H locs ls hR hS hl
    refine z_callF C hR hS hl (n := 1) (C1 := RJ2) (T := TJ2) (N := 3) (ci := 0) (y := yJ2_get) (bytes := cJ2_get) (maxL := 2) (rt := (some (.object "java/lang/Object"))) (As := [.int v_18]) (rest := []) (x := ⟨"java/util/List", "get", "(I)Ljava/lang/Object;"⟩) h.1 rfl (lw_F q584 q381 q383 q76 q385) ⟨C.ok.2.1 _ q380, C.ok.2.1 _ q379, C.ok.2.1 _ q384, C.ok.2.1 _ q382, C.ok.2.1 _ q174⟩ hdF_J2_get (by decide) rfl rfl (Nat.le_of_ble_eq_true rfl) dX10_go_95 h.2 (fun r g_19 hk_ => ?_) (fun x g1 h => z_out C hQ h)
    clear h; obtain ⟨r_20, rfl, h⟩ := hk_
    show GW X E 6 g_19 100 [(0, .ref a0)] [va_rf r_20]
    intro H locs ls hR hS hl
    obtain ⟨a_21, e_, h⟩ := h; subst e_
    have hl : lv_has ls 6 [(0, .ref a0)] := by assumption
    show zV X E H locs (F0 (zm E) 100 ls [.ref a_21])
    refine z_castS C hR (ci := 4) (C1 := RX4) (T := TX4) (N := 7) h.1 rfl q585 dX10_go_100 ?_
    have h := h.2
    obtain ⟨fs_22, v_23, q1, q2, h⟩ := h
    refine z_getN C hR q1 rfl (ci := 4) rfl in_X4 1 (by decide) q786 (fun _ h => h) q2 dX10_go_103 ?_
    refine lv_istore_n (lv' := [(1, .int v_23), (0, .ref a0)]) C.x C.b dX10_go_106 rfl hl (by decide) rfl (fun ls hl => ?_)
    refine lv_iconst (v := 0) C.x C.b dX10_go_107 (by decide) ?_
    refine lv_istore_n (lv' := [(2, .int 0), (1, .int v_23), (0, .ref a0)]) C.x C.b dX10_go_108 rfl hl (by decide) rfl (fun ls hl => ?_)
    exact h H locs ls hR hS (lv_sub hl [2, 1, 0] rfl)
  · have h := h2 c; clear h1 h2
    refine lv_aload_n C.x C.b dX10_go_24 rfl (lv_at hl 0 rfl) ?_
    refine lv_dup C.x C.b dX10_go_25 rfl ?_
    obtain ⟨fs_24, v_25, q1, q2, h⟩ := h
    refine z_get C hR q1 rfl (ci := 10) rfl in_X10 4 (by decide) q421 (fun _ h => h) q2 dX10_go_26 ?_
    refine lv_iconst (v := 1) C.x C.b dX10_go_29 (by decide) ?_
    refine lv_iadd C.x C.b dX10_go_30 ?_
    obtain ⟨fs_26, q1, q2, h⟩ := h
    refine z_put C hR hS q1 rfl (ci := 10) rfl in_X10 tyX10 tyX10_ok nmX10 4 (by decide) q421 (fun _ h => h) rfl ⟨rfl, rfl⟩ q2 dX10_go_31 (fun H locs hR hS => ?_)
    have h := h _ rfl
    generalize zSo g_9 10 a0 (fs_26.set 4 (.int (v_25 + 1))) = g_27 at h hR
    refine lv_aload_n C.x C.b dX10_go_34 rfl (lv_at hl 0 rfl) ?_
    refine lv_dup C.x C.b dX10_go_35 rfl ?_
    obtain ⟨fs_28, v_29, q1, q2, h⟩ := h
    refine z_get C hR q1 rfl (ci := 10) rfl in_X10 5 (by decide) q423 (fun _ h => h) q2 dX10_go_36 ?_
    refine lv_aload_n C.x C.b dX10_go_39 rfl (lv_at hl 0 rfl) ?_
    obtain ⟨fs_30, r_31, q1, q2, h⟩ := h
    refine z_get C hR q1 rfl (ci := 10) rfl in_X10 1 (by decide) q418 (fun _ h => h) q2 dX10_go_40 ?_
    obtain ⟨h1, h2⟩ := h
    cases r_31 with
    | none =>
      have h := h1 rfl; clear h1 h2
      have hl : lv_has ls 6 [(0, .ref a0)] := by assumption
      refine lv_ifnullN (tgt := 73) C.x C.b dX10_go_43 (by decide) ?_
      refine lv_iconst (v := 0) C.x C.b dX10_go_73 (by decide) ?_
      refine lv_iadd C.x C.b dX10_go_74 ?_
      obtain ⟨fs_33, q1, q2, h⟩ := h
      refine z_put C hR hS q1 rfl (ci := 10) rfl in_X10 tyX10 tyX10_ok nmX10 5 (by decide) q423 (fun _ h => h) rfl ⟨rfl, rfl⟩ q2 dX10_go_75 (fun H locs hR hS => ?_)
      have h := h _ rfl
      generalize zSo g_27 10 a0 (fs_33.set 5 (.int (v_29 + 0))) = g_34 at h hR
      exact z_vret C hQ dX10_go_78 h H locs ls hR hS hl
    | some a_32 =>
      have h := h2 _ rfl; clear h1 h2
      have hl : lv_has ls 6 [(0, .ref a0)] := by assumption
      refine lv_ifnull C.x C.b dX10_go_43 ?_
      refine lv_aload_n C.x C.b dX10_go_46 rfl (lv_at hl 0 rfl) ?_
      obtain ⟨fs_35, r_36, q1, q2, h⟩ := h
      refine z_get C hR q1 rfl (ci := 10) rfl in_X10 1 (by decide) q418 (fun _ h => h) q2 dX10_go_47 ?_
      refine lv_aload_n C.x C.b dX10_go_50 rfl (lv_at hl 0 rfl) ?_
      obtain ⟨fs_37, r_38, q1, q2, h⟩ := h
      refine z_get C hR q1 rfl (ci := 10) rfl in_X10 2 (by decide) q419 (fun _ h => h) q2 dX10_go_51 ?_
      refine lv_aload_n C.x C.b dX10_go_54 rfl (lv_at hl 0 rfl) ?_
      obtain ⟨fs_39, a_40, q1, q2, h⟩ := h
      refine z_get C hR q1 rfl (ci := 10) rfl in_X10 0 (by decide) q417 (fun _ h => h) q2 dX10_go_55 ?_
      refine lv_iconst (v := 0) C.x C.b dX10_go_58 (by decide) ?_
      obtain ⟨a_41, e_, h⟩ := h; subst e_
      have hl : lv_has ls 6 [(0, .ref a0)] := by assumption
      show zV X E H locs (F0 (zm E) 59 ls [.int 0, .ref a_40, va_rf r_38, .ref a_41, .int v_29, .ref a0])
      refine z_callV C hR hS hl (n := 3) (C1 := RX8) (T := TX8) (N := 8) (ci := 8) (y := yX8_answerFor) (bytes := cX8_answerFor) (maxL := 8) (rt := (some .int)) (As := [va_rf r_38, .ref a_40, .int 0]) (rest := [.int v_29, .ref a0]) h.1 rfl (lw_V q447 q448 q449 q107 q450) hdV_X8_answerFor (by decide) rfl rfl (Nat.le_of_ble_eq_true rfl) dX10_go_59 h.2 (fun r g_42 hk_ => ?_) (fun x g1 h => z_out C hQ h)
      clear h; obtain ⟨v_43, rfl, h⟩ := hk_
      show GW X E 6 g_42 62 [(0, .ref a0)] [.int v_43, .int v_29, .ref a0]
      intro H locs ls hR hS hl
      refine lv_aload_n C.x C.b dX10_go_62 rfl (lv_at hl 0 rfl) ?_
      obtain ⟨fs_44, v_45, q1, q2, h⟩ := h
      refine z_get C hR q1 rfl (ci := 10) rfl in_X10 3 (by decide) q420 (fun _ h => h) q2 dX10_go_63 ?_
      obtain ⟨h1, h2⟩ := h
      refine lv_icmp_ne (tgt := 73) C.x C.b dX10_go_66 (by decide) (fun c => ?_) (fun c => ?_)
      · have h := h1 c; clear h1 h2
        refine lv_iconst (v := 0) C.x C.b dX10_go_73 (by decide) ?_
        refine lv_iadd C.x C.b dX10_go_74 ?_
        obtain ⟨fs_46, q1, q2, h⟩ := h
        refine z_put C hR hS q1 rfl (ci := 10) rfl in_X10 tyX10 tyX10_ok nmX10 5 (by decide) q423 (fun _ h => h) rfl ⟨rfl, rfl⟩ q2 dX10_go_75 (fun H locs hR hS => ?_)
        have h := h _ rfl
        generalize zSo g_42 10 a0 (fs_46.set 5 (.int (v_29 + 0))) = g_47 at h hR
        exact z_vret C hQ dX10_go_78 h H locs ls hR hS hl
      · have h := h2 c; clear h1 h2
        refine lv_iconst (v := 1) C.x C.b dX10_go_69 (by decide) ?_
        refine lv_goto (tgt := 74) C.x C.b dX10_go_70 (by decide) ?_
        refine lv_iadd C.x C.b dX10_go_74 ?_
        obtain ⟨fs_48, q1, q2, h⟩ := h
        refine z_put C hR hS q1 rfl (ci := 10) rfl in_X10 tyX10 tyX10_ok nmX10 5 (by decide) q423 (fun _ h => h) rfl ⟨rfl, rfl⟩ q2 dX10_go_75 (fun H locs hR hS => ?_)
        have h := h _ rfl
        generalize zSo g_42 10 a0 (fs_48.set 5 (.int (v_29 + 1))) = g_49 at h hR
        exact z_vret C hQ dX10_go_78 h H locs ls hR hS hl
set_option maxHeartbeats 4000000 in
theorem mX1_scrap {X : zX} {d : Nat} {g : zG} {K : Option Value → zG → Prop} {KX : String → zG → Prop} (hok : zOk X) (a0 : Nat) (h : ∃ (fs_1 : List Value) (a_2 : Nat), zGo g 1 a0 = some fs_1 ∧ fs_1[8]? = some (.ref a_2) ∧ zIs g 0 a_2 ∧ zCal X d yJ2_size wJ2_size [.ref a_2] g (fun r g_3 => ∃ v_4 : Int32, r = some (.int v_4) ∧ ∃ (fs_5 : List Value) (a_6 : Nat), zGo g_3 1 a0 = some fs_5 ∧ fs_5[8]? = some (.ref a_6) ∧ zIs g_3 0 a_6 ∧ zCal X d yJ2_clear wJ2_clear [.ref a_6] g_3 (fun r g_7 => r = none ∧ K (some (.int v_4)) g_7) KX) KX) : zCal X (d + 1) yX1_scrap wX1_scrap [.ref a0] g K KX := by
  refine z_enter hok pn_X1 (Nat.le_of_ble_eq_true rfl) (fun E C hQ => ?_)
  have C : zC X (d + 1) E RX1 cX1_scrap 2 (some .int) "scrap" := C
  show GW X E 2 g 0 [(0, .ref a0)] []
  intro H locs ls hR hS hl
  refine lv_aload_n C.x C.b dX1_scrap_0 rfl (lv_at hl 0 rfl) ?_
  obtain ⟨fs_1, a_2, q1, q2, h⟩ := h
  refine z_get C hR q1 rfl (ci := 1) rfl in_X1 8 (by decide) q256 (fun _ h => h) q2 dX1_scrap_1 ?_
  refine z_callF C hR hS hl (n := 0) (C1 := RJ2) (T := TJ2) (N := 3) (ci := 0) (y := yJ2_size) (bytes := cJ2_size) (maxL := 1) (rt := (some .int)) (As := []) (rest := []) (x := ⟨"java/util/List", "size", "()I"⟩) h.1 rfl (lw_F q291 q294 q296 q76 q298) ⟨C.ok.2.1 _ q293, C.ok.2.1 _ q292, C.ok.2.1 _ q297, C.ok.2.1 _ q295, C.ok.2.1 _ q174⟩ hdF_J2_size (by decide) rfl rfl (Nat.le_of_ble_eq_true rfl) dX1_scrap_4 h.2 (fun r g_3 hk_ => ?_) (fun x g1 h => z_out C hQ h)
  clear h; obtain ⟨v_4, rfl, h⟩ := hk_
  show GW X E 2 g_3 9 [(0, .ref a0)] [.int v_4]
  intro H locs ls hR hS hl
  refine lv_istore_n (lv' := [(1, .int v_4), (0, .ref a0)]) C.x C.b dX1_scrap_9 rfl hl (by decide) rfl (fun ls hl => ?_)
  refine lv_aload_n C.x C.b dX1_scrap_10 rfl (lv_at hl 1 rfl) ?_
  obtain ⟨fs_5, a_6, q1, q2, h⟩ := h
  refine z_get C hR q1 rfl (ci := 1) rfl in_X1 8 (by decide) q256 (fun _ h => h) q2 dX1_scrap_11 ?_
  refine z_callF C hR hS hl (n := 0) (C1 := RJ2) (T := TJ2) (N := 3) (ci := 0) (y := yJ2_clear) (bytes := cJ2_clear) (maxL := 4) (rt := none) (As := []) (rest := []) (x := ⟨"java/util/List", "clear", "()V"⟩) h.1 rfl (lw_F q300 q303 q305 q76 q307) ⟨C.ok.2.1 _ q302, C.ok.2.1 _ q301, C.ok.2.1 _ q306, C.ok.2.1 _ q304, C.ok.2.1 _ q174⟩ hdF_J2_clear (by decide) rfl rfl (Nat.le_of_ble_eq_true rfl) dX1_scrap_14 h.2 (fun r g_7 hk_ => ?_) (fun x g1 h => z_out C hQ h)
  clear h; obtain ⟨rfl, h⟩ := hk_
  show GW X E 2 g_7 19 [(1, .int v_4), (0, .ref a0)] []
  intro H locs ls hR hS hl
  refine lv_iload_n C.x C.b dX1_scrap_19 rfl (lv_at hl 0 rfl) ?_
  exact z_iret C hQ dX1_scrap_20 h H locs ls hR hS hl
set_option maxHeartbeats 4000000 in
theorem mX1_events {X : zX} {d : Nat} {g : zG} {K : Option Value → zG → Prop} {KX : String → zG → Prop} (hok : zOk X) (a0 : Nat) (h : ∃ (fs_1 : List Value) (a_2 : Nat), zGo g 1 a0 = some fs_1 ∧ fs_1[2]? = some (.ref a_2) ∧ zIs g 0 a_2 ∧ zCal X d yJ2_size wJ2_size [.ref a_2] g (fun r g_3 => ∃ v_4 : Int32, r = some (.int v_4) ∧ K (some (.int v_4)) g_3) KX) : zCal X (d + 1) yX1_events wX1_events [.ref a0] g K KX := by
  refine z_enter hok pn_X1 (Nat.le_of_ble_eq_true rfl) (fun E C hQ => ?_)
  have C : zC X (d + 1) E RX1 cX1_events 1 (some .int) "events" := C
  show GW X E 1 g 0 [(0, .ref a0)] []
  intro H locs ls hR hS hl
  refine lv_aload_n C.x C.b dX1_events_0 rfl (lv_at hl 0 rfl) ?_
  obtain ⟨fs_1, a_2, q1, q2, h⟩ := h
  refine z_get C hR q1 rfl (ci := 1) rfl in_X1 2 (by decide) q245 (fun _ h => h) q2 dX1_events_1 ?_
  refine z_callF C hR hS hl (n := 0) (C1 := RJ2) (T := TJ2) (N := 3) (ci := 0) (y := yJ2_size) (bytes := cJ2_size) (maxL := 1) (rt := (some .int)) (As := []) (rest := []) (x := ⟨"java/util/List", "size", "()I"⟩) h.1 rfl (lw_F q291 q294 q296 q76 q298) ⟨C.ok.2.1 _ q293, C.ok.2.1 _ q292, C.ok.2.1 _ q297, C.ok.2.1 _ q295, C.ok.2.1 _ q174⟩ hdF_J2_size (by decide) rfl rfl (Nat.le_of_ble_eq_true rfl) dX1_events_4 h.2 (fun r g_3 hk_ => ?_) (fun x g1 h => z_out C hQ h)
  clear h; obtain ⟨v_4, rfl, h⟩ := hk_
  show GW X E 1 g_3 9 [(0, .ref a0)] [.int v_4]
  intro H locs ls hR hS hl
  exact z_iret C hQ dX1_events_9 h H locs ls hR hS hl
set_option maxHeartbeats 4000000 in
theorem mX1_dropped {X : zX} {d : Nat} {g : zG} {K : Option Value → zG → Prop} {KX : String → zG → Prop} (hok : zOk X) (a0 : Nat) (h : ∃ (fs_1 : List Value) (v_2 : Int32), zGo g 1 a0 = some fs_1 ∧ fs_1[7]? = some (.int v_2) ∧ K (some (.int v_2)) g) : zCal X d yX1_dropped wX1_dropped [.ref a0] g K KX := by
  refine z_enter hok pn_X1 (Nat.le_of_ble_eq_true rfl) (fun E C hQ => ?_)
  have C : zC X d E RX1 cX1_dropped 1 (some .int) "dropped" := C
  show GW X E 1 g 0 [(0, .ref a0)] []
  intro H locs ls hR hS hl
  refine lv_aload_n C.x C.b dX1_dropped_0 rfl (lv_at hl 0 rfl) ?_
  obtain ⟨fs_1, v_2, q1, q2, h⟩ := h
  refine z_get C hR q1 rfl (ci := 1) rfl in_X1 7 (by decide) q255 (fun _ h => h) q2 dX1_dropped_1 ?_
  exact z_iret C hQ dX1_dropped_4 h H locs ls hR hS hl
set_option maxHeartbeats 4000000 in
theorem mX1_present {X : zX} {d : Nat} {g : zG} {K : Option Value → zG → Prop} {KX : String → zG → Prop} (hok : zOk X) (a0 : Nat) (h : ∃ (fs_1 : List Value) (v_2 : Int32), zGo g 1 a0 = some fs_1 ∧ fs_1[5]? = some (.int v_2) ∧ K (some (.int v_2)) g) : zCal X d yX1_present wX1_present [.ref a0] g K KX := by
  refine z_enter hok pn_X1 (Nat.le_of_ble_eq_true rfl) (fun E C hQ => ?_)
  have C : zC X d E RX1 cX1_present 1 (some .int) "present" := C
  show GW X E 1 g 0 [(0, .ref a0)] []
  intro H locs ls hR hS hl
  refine lv_aload_n C.x C.b dX1_present_0 rfl (lv_at hl 0 rfl) ?_
  obtain ⟨fs_1, v_2, q1, q2, h⟩ := h
  refine z_get C hR q1 rfl (ci := 1) rfl in_X1 5 (by decide) q252 (fun _ h => h) q2 dX1_present_1 ?_
  exact z_iret C hQ dX1_present_4 h H locs ls hR hS hl
theorem hdF_J2_iterator : (yJ2_iterator.name = (⟨"java/util/List", "iterator", "()Ljava/util/Iterator;"⟩ : MethodName).name ∧ yJ2_iterator.desc = (⟨"java/util/List", "iterator", "()Ljava/util/Iterator;"⟩ : MethodName).desc) ∧ (⟨"java/util/List", "iterator", "()Ljava/util/Iterator;"⟩ : MethodName).cls ≠ "java/lang/invoke/MethodHandle" ∧ (⟨"java/util/List", "iterator", "()Ljava/util/Iterator;"⟩ : MethodName).cls ≠ "java/lang/invoke/VarHandle" ∧ (parseMethodDescriptor (⟨"java/util/List", "iterator", "()Ljava/util/Iterator;"⟩ : MethodName).desc).map (fun d => d.parameters.length) = some 0 := by decide +kernel
theorem hdF_J22_hasNext : (yJ22_hasNext.name = (⟨"java/util/Iterator", "hasNext", "()Z"⟩ : MethodName).name ∧ yJ22_hasNext.desc = (⟨"java/util/Iterator", "hasNext", "()Z"⟩ : MethodName).desc) ∧ (⟨"java/util/Iterator", "hasNext", "()Z"⟩ : MethodName).cls ≠ "java/lang/invoke/MethodHandle" ∧ (⟨"java/util/Iterator", "hasNext", "()Z"⟩ : MethodName).cls ≠ "java/lang/invoke/VarHandle" ∧ (parseMethodDescriptor (⟨"java/util/Iterator", "hasNext", "()Z"⟩ : MethodName).desc).map (fun d => d.parameters.length) = some 0 := by decide +kernel
theorem hdF_J22_next : (yJ22_next.name = (⟨"java/util/Iterator", "next", "()Ljava/lang/Object;"⟩ : MethodName).name ∧ yJ22_next.desc = (⟨"java/util/Iterator", "next", "()Ljava/lang/Object;"⟩ : MethodName).desc) ∧ (⟨"java/util/Iterator", "next", "()Ljava/lang/Object;"⟩ : MethodName).cls ≠ "java/lang/invoke/MethodHandle" ∧ (⟨"java/util/Iterator", "next", "()Ljava/lang/Object;"⟩ : MethodName).cls ≠ "java/lang/invoke/VarHandle" ∧ (parseMethodDescriptor (⟨"java/util/Iterator", "next", "()Ljava/lang/Object;"⟩ : MethodName).desc).map (fun d => d.parameters.length) = some 0 := by decide +kernel
set_option maxHeartbeats 4000000 in
theorem bX1_parts_18 {X : zX} {d : Nat} {E : zM} {K : Option Value → zG → Prop} {KX : String → zG → Prop} (C : zC X (d + 1) E RX1 cX1_parts 8 (some .int) "parts") (hQ : zQ X E K KX) (g : zG) (a1 : Nat) (a2 : Nat) (h : zIs g 11 a2 ∧ zCal X d yJ22_hasNext wJ22_hasNext [.ref a2] g (fun r g_1 => ∃ v_2 : Int32, r = some (.int v_2) ∧ zbo v_2 ∧ (v_2 = 0 → zIs g_1 0 a1 ∧ zCal X d yJ2_size wJ2_size [.ref a1] g_1 (fun r g_3 => ∃ v_4 : Int32, r = some (.int v_4) ∧ K (some (.int v_4)) g_3) KX) ∧ (¬ v_2 = 0 → zIs g_1 11 a2 ∧ zCal X d yJ22_next wJ22_next [.ref a2] g_1 (fun r g_5 => ∃ r_6 : Option Nat, r = some (va_rf r_6) ∧ ∃ a_7 : Nat, r_6 = some a_7 ∧ zIs g_5 8 a_7 ∧ ∃ (fs_8 : List Value) (a_9 : Nat), zGo g_5 8 a_7 = some fs_8 ∧ fs_8[1]? = some (.ref a_9) ∧ zIs g_5 0 a_9 ∧ zCal X d yJ2_iterator wJ2_iterator [.ref a_9] g_5 (fun r g_10 => ∃ a_12 : Nat, r = some (.ref a_12) ∧ GW X E 8 g_10 48 [(1, .ref a1), (2, .ref a2), (4, .ref a_12)] []) KX) KX)) KX) : GW X E 8 g 18 [(1, .ref a1), (2, .ref a2)] [] := by
  intro H locs ls hR hS hl
  refine lv_aload_n C.x C.b dX1_parts_18 rfl (lv_at hl 1 rfl) ?_
  refine z_callF C hR hS hl (n := 0) (C1 := RJ22) (T := TJ22) (N := 4) (ci := 11) (y := yJ22_hasNext) (bytes := cJ22_hasNext) (maxL := 1) (rt := (some .boolean)) (As := []) (rest := []) (x := ⟨"java/util/Iterator", "hasNext", "()Z"⟩) h.1 rfl (lw_F q353 q357 q359 q101 q361) ⟨C.ok.2.1 _ q355, C.ok.2.1 _ q354, C.ok.2.1 _ q360, C.ok.2.1 _ q358, C.ok.2.1 _ q356⟩ hdF_J22_hasNext (by decide) rfl rfl (Nat.le_of_ble_eq_true rfl) dX1_parts_19 h.2 (fun r g_1 hk_ => ?_) (fun x g1 h => z_out C hQ h)
  clear h; obtain ⟨v_2, rfl, zb_, h⟩ := hk_
  show GW X E 8 g_1 24 [(1, .ref a1), (2, .ref a2)] [.int v_2]
  intro H locs ls hR hS hl
  obtain ⟨h1, h2⟩ := h
  refine lv_if_eq (tgt := 144) C.x C.b dX1_parts_24 (by decide) (fun c => ?_) (fun c => ?_)
  · have h := h1 c; clear h1 h2
    refine lv_aload_n C.x C.b dX1_parts_144 rfl (lv_at hl 0 rfl) ?_
    refine z_callF C hR hS hl (n := 0) (C1 := RJ2) (T := TJ2) (N := 3) (ci := 0) (y := yJ2_size) (bytes := cJ2_size) (maxL := 1) (rt := (some .int)) (As := []) (rest := []) (x := ⟨"java/util/List", "size", "()I"⟩) h.1 rfl (lw_F q291 q294 q296 q76 q298) ⟨C.ok.2.1 _ q293, C.ok.2.1 _ q292, C.ok.2.1 _ q297, C.ok.2.1 _ q295, C.ok.2.1 _ q174⟩ hdF_J2_size (by decide) rfl rfl (Nat.le_of_ble_eq_true rfl) dX1_parts_145 h.2 (fun r g_3 hk_ => ?_) (fun x g1 h => z_out C hQ h)
    clear h; obtain ⟨v_4, rfl, h⟩ := hk_
    show GW X E 8 g_3 150 [(1, .ref a1), (2, .ref a2)] [.int v_4]
    intro H locs ls hR hS hl
    exact z_iret C hQ dX1_parts_150 h H locs ls hR hS hl
  · have h := h2 c; clear h1 h2
    refine lv_aload_n C.x C.b dX1_parts_27 rfl (lv_at hl 1 rfl) ?_
    refine z_callF C hR hS hl (n := 0) (C1 := RJ22) (T := TJ22) (N := 4) (ci := 11) (y := yJ22_next) (bytes := cJ22_next) (maxL := 3) (rt := (some (.object "java/lang/Object"))) (As := []) (rest := []) (x := ⟨"java/util/Iterator", "next", "()Ljava/lang/Object;"⟩) h.1 rfl (lw_F q363 q366 q368 q101 q370) ⟨C.ok.2.1 _ q365, C.ok.2.1 _ q364, C.ok.2.1 _ q369, C.ok.2.1 _ q367, C.ok.2.1 _ q356⟩ hdF_J22_next (by decide) rfl rfl (Nat.le_of_ble_eq_true rfl) dX1_parts_28 h.2 (fun r g_5 hk_ => ?_) (fun x g1 h => z_out C hQ h)
    clear h; obtain ⟨r_6, rfl, h⟩ := hk_
    show GW X E 8 g_5 33 [(1, .ref a1), (2, .ref a2)] [va_rf r_6]
    intro H locs ls hR hS hl
    obtain ⟨a_7, e_, h⟩ := h; subst e_
    have hl : lv_has ls 8 [(1, .ref a1), (2, .ref a2)] := by assumption
    show zV X E H locs (F0 (zm E) 33 ls [.ref a_7])
    refine z_castS C hR (ci := 8) (C1 := RX8) (T := TX8) (N := 8) h.1 rfl q375 dX1_parts_33 ?_
    have h := h.2
    refine lv_astore_n (lv' := [(3, .ref a_7), (1, .ref a1), (2, .ref a2)]) C.x C.b dX1_parts_36 rfl hl (by decide) rfl (fun ls hl => ?_)
    refine lv_aload_n C.x C.b dX1_parts_37 rfl (lv_at hl 0 rfl) ?_
    obtain ⟨fs_8, a_9, q1, q2, h⟩ := h
    refine z_getN C hR q1 rfl (ci := 8) rfl in_X8 1 (by decide) q1437 (fun _ h => h) q2 dX1_parts_38 ?_
    refine z_callF C hR hS hl (n := 0) (C1 := RJ2) (T := TJ2) (N := 3) (ci := 0) (y := yJ2_iterator) (bytes := cJ2_iterator) (maxL := 1) (rt := (some (.object "java/util/Iterator"))) (As := []) (rest := []) (x := ⟨"java/util/List", "iterator", "()Ljava/util/Iterator;"⟩) h.1 rfl (lw_F q325 q328 q330 q76 q332) ⟨C.ok.2.1 _ q327, C.ok.2.1 _ q326, C.ok.2.1 _ q331, C.ok.2.1 _ q329, C.ok.2.1 _ q174⟩ hdF_J2_iterator (by decide) rfl rfl (Nat.le_of_ble_eq_true rfl) dX1_parts_41 h.2 (fun r g_10 hk_ => ?_) (fun x g1 h => z_out C hQ h)
    clear h; obtain ⟨a_12, rfl, h⟩ := hk_
    show GW X E 8 g_10 46 [(3, .ref a_7), (1, .ref a1), (2, .ref a2)] [.ref a_12]
    intro H locs ls hR hS hl
    refine lv_astore (lv' := [(4, .ref a_12), (3, .ref a_7), (1, .ref a1), (2, .ref a2)]) C.x C.b dX1_parts_46 hl (by decide) rfl (fun ls hl => ?_)
    exact h H locs ls hR hS (lv_sub hl [2, 3, 0] rfl)
set_option maxHeartbeats 4000000 in
theorem bX1_parts_48 {X : zX} {d : Nat} {E : zM} {K : Option Value → zG → Prop} {KX : String → zG → Prop} (C : zC X (d + 1) E RX1 cX1_parts 8 (some .int) "parts") (hQ : zQ X E K KX) (g : zG) (a1 : Nat) (a2 : Nat) (a4 : Nat) (h : zIs g 11 a4 ∧ zCal X d yJ22_hasNext wJ22_hasNext [.ref a4] g (fun r g_1 => ∃ v_2 : Int32, r = some (.int v_2) ∧ zbo v_2 ∧ (v_2 = 0 → GW X E 8 g_1 18 [(1, .ref a1), (2, .ref a2)] []) ∧ (¬ v_2 = 0 → zIs g_1 11 a4 ∧ zCal X d yJ22_next wJ22_next [.ref a4] g_1 (fun r g_3 => ∃ r_4 : Option Nat, r = some (va_rf r_4) ∧ ∃ a_5 : Nat, r_4 = some a_5 ∧ zIs g_3 7 a_5 ∧ GW X E 8 g_3 76 [(1, .ref a1), (2, .ref a2), (4, .ref a4), (5, .ref a_5), (6, .int 1), (7, .int 0)] []) KX)) KX) : GW X E 8 g 48 [(1, .ref a1), (2, .ref a2), (4, .ref a4)] [] := by
  intro H locs ls hR hS hl
  refine lv_aload C.x C.b dX1_parts_48 (lv_at hl 2 rfl) ?_
  refine z_callF C hR hS hl (n := 0) (C1 := RJ22) (T := TJ22) (N := 4) (ci := 11) (y := yJ22_hasNext) (bytes := cJ22_hasNext) (maxL := 1) (rt := (some .boolean)) (As := []) (rest := []) (x := ⟨"java/util/Iterator", "hasNext", "()Z"⟩) h.1 rfl (lw_F q353 q357 q359 q101 q361) ⟨C.ok.2.1 _ q355, C.ok.2.1 _ q354, C.ok.2.1 _ q360, C.ok.2.1 _ q358, C.ok.2.1 _ q356⟩ hdF_J22_hasNext (by decide) rfl rfl (Nat.le_of_ble_eq_true rfl) dX1_parts_50 h.2 (fun r g_1 hk_ => ?_) (fun x g1 h => z_out C hQ h)
  clear h; obtain ⟨v_2, rfl, zb_, h⟩ := hk_
  show GW X E 8 g_1 55 [(1, .ref a1), (2, .ref a2), (4, .ref a4)] [.int v_2]
  intro H locs ls hR hS hl
  obtain ⟨h1, h2⟩ := h
  refine lv_if_eq (tgt := 141) C.x C.b dX1_parts_55 (by decide) (fun c => ?_) (fun c => ?_)
  · have h := h1 c; clear h1 h2
    refine lv_goto (tgt := 18) C.x C.b dX1_parts_141 (by decide) ?_
    exact h H locs ls hR hS (lv_sub hl [0, 1] rfl)
  · have h := h2 c; clear h1 h2
    refine lv_aload C.x C.b dX1_parts_58 (lv_at hl 2 rfl) ?_
    refine z_callF C hR hS hl (n := 0) (C1 := RJ22) (T := TJ22) (N := 4) (ci := 11) (y := yJ22_next) (bytes := cJ22_next) (maxL := 3) (rt := (some (.object "java/lang/Object"))) (As := []) (rest := []) (x := ⟨"java/util/Iterator", "next", "()Ljava/lang/Object;"⟩) h.1 rfl (lw_F q363 q366 q368 q101 q370) ⟨C.ok.2.1 _ q365, C.ok.2.1 _ q364, C.ok.2.1 _ q369, C.ok.2.1 _ q367, C.ok.2.1 _ q356⟩ hdF_J22_next (by decide) rfl rfl (Nat.le_of_ble_eq_true rfl) dX1_parts_60 h.2 (fun r g_3 hk_ => ?_) (fun x g1 h => z_out C hQ h)
    clear h; obtain ⟨r_4, rfl, h⟩ := hk_
    show GW X E 8 g_3 65 [(1, .ref a1), (2, .ref a2), (4, .ref a4)] [va_rf r_4]
    intro H locs ls hR hS hl
    obtain ⟨a_5, e_, h⟩ := h; subst e_
    have hl : lv_has ls 8 [(1, .ref a1), (2, .ref a2), (4, .ref a4)] := by assumption
    show zV X E H locs (F0 (zm E) 65 ls [.ref a_5])
    refine z_castS C hR (ci := 7) (C1 := RX7) (T := TX7) (N := 7) h.1 rfl q376 dX1_parts_65 ?_
    have h := h.2
    refine lv_astore (lv' := [(5, .ref a_5), (1, .ref a1), (2, .ref a2), (4, .ref a4)]) C.x C.b dX1_parts_68 hl (by decide) rfl (fun ls hl => ?_)
    refine lv_iconst (v := 1) C.x C.b dX1_parts_70 (by decide) ?_
    refine lv_istore (lv' := [(6, .int 1), (5, .ref a_5), (1, .ref a1), (2, .ref a2), (4, .ref a4)]) C.x C.b dX1_parts_71 hl (by decide) rfl (fun ls hl => ?_)
    refine lv_iconst (v := 0) C.x C.b dX1_parts_73 (by decide) ?_
    refine lv_istore (lv' := [(7, .int 0), (6, .int 1), (5, .ref a_5), (1, .ref a1), (2, .ref a2), (4, .ref a4)]) C.x C.b dX1_parts_74 hl (by decide) rfl (fun ls hl => ?_)
    exact h H locs ls hR hS (lv_sub hl [3, 4, 5, 2, 1, 0] rfl)
set_option maxHeartbeats 4000000 in
theorem bX1_parts_76 {X : zX} {d : Nat} {E : zM} {K : Option Value → zG → Prop} {KX : String → zG → Prop} (C : zC X (d + 1) E RX1 cX1_parts 8 (some .int) "parts") (hQ : zQ X E K KX) (g : zG) (a1 : Nat) (a2 : Nat) (a4 : Nat) (a5 : Nat) (x6 : Int32) (x7 : Int32) (h : zIs g 0 a1 ∧ zCal X d yJ2_size wJ2_size [.ref a1] g (fun r g_1 => ∃ v_2 : Int32, r = some (.int v_2) ∧ (v_2 ≤ x7 → (x6 = 0 → GW X E 8 g_1 48 [(1, .ref a1), (2, .ref a2), (4, .ref a4)] []) ∧ (¬ x6 = 0 → zIs g_1 0 a1 ∧ zCal X d yJ2_add wJ2_add [.ref a1, .ref a5] g_1 (fun r g_3 => ∃ v_4 : Int32, r = some (.int v_4) ∧ zbo v_4 ∧ GW X E 8 g_3 48 [(1, .ref a1), (2, .ref a2), (4, .ref a4)] []) KX)) ∧ (¬ v_2 ≤ x7 → (x6 = 0 → (x6 = 0 → GW X E 8 g_1 48 [(1, .ref a1), (2, .ref a2), (4, .ref a4)] []) ∧ (¬ x6 = 0 → zIs g_1 0 a1 ∧ zCal X d yJ2_add wJ2_add [.ref a1, .ref a5] g_1 (fun r g_5 => ∃ v_6 : Int32, r = some (.int v_6) ∧ zbo v_6 ∧ GW X E 8 g_5 48 [(1, .ref a1), (2, .ref a2), (4, .ref a4)] []) KX)) ∧ (¬ x6 = 0 → zIs g_1 0 a1 ∧ zCal X d yJ2_get wJ2_get [.ref a1, .int x7] g_1 (fun r g_7 => ∃ r_8 : Option Nat, r = some (va_rf r_8) ∧ ∃ a_9 : Nat, r_8 = some a_9 ∧ zIs g_7 7 a_9 ∧ zIs g_7 7 a_9 ∧ zCal X d yX7_isSame wX7_isSame [.ref a_9, .ref a5] g_7 (fun r g_10 => ∃ v_11 : Int32, r = some (.int v_11) ∧ zbo v_11 ∧ (¬ v_11 = 0 → GW X E 8 g_10 76 [(1, .ref a1), (2, .ref a2), (4, .ref a4), (5, .ref a5), (6, .int 0), (7, .int (x7 + 1))] []) ∧ (v_11 = 0 → GW X E 8 g_10 76 [(1, .ref a1), (2, .ref a2), (4, .ref a4), (5, .ref a5), (6, .int 1), (7, .int (x7 + 1))] [])) KX) KX))) KX) : GW X E 8 g 76 [(1, .ref a1), (2, .ref a2), (4, .ref a4), (5, .ref a5), (6, .int x6), (7, .int x7)] [] := by
  intro H locs ls hR hS hl
  refine lv_iload C.x C.b dX1_parts_76 (lv_at hl 5 rfl) ?_
  refine lv_aload_n C.x C.b dX1_parts_78 rfl (lv_at hl 0 rfl) ?_
  refine z_callF C hR hS hl (n := 0) (C1 := RJ2) (T := TJ2) (N := 3) (ci := 0) (y := yJ2_size) (bytes := cJ2_size) (maxL := 1) (rt := (some .int)) (As := []) (rest := [.int x7]) (x := ⟨"java/util/List", "size", "()I"⟩) h.1 rfl (lw_F q291 q294 q296 q76 q298) ⟨C.ok.2.1 _ q293, C.ok.2.1 _ q292, C.ok.2.1 _ q297, C.ok.2.1 _ q295, C.ok.2.1 _ q174⟩ hdF_J2_size (by decide) rfl rfl (Nat.le_of_ble_eq_true rfl) dX1_parts_79 h.2 (fun r g_1 hk_ => ?_) (fun x g1 h => z_out C hQ h)
  clear h; obtain ⟨v_2, rfl, h⟩ := hk_
  show GW X E 8 g_1 84 [(1, .ref a1), (2, .ref a2), (4, .ref a4), (5, .ref a5), (6, .int x6), (7, .int x7)] [.int v_2, .int x7]
  intro H locs ls hR hS hl
  obtain ⟨h1, h2⟩ := h
  refine lv_icmp_ge (tgt := 124) C.x C.b dX1_parts_84 (by decide) (fun c => ?_) (fun c => ?_)
  · have h := h1 c; clear h1 h2
    refine lv_iload C.x C.b dX1_parts_124 (lv_at hl 4 rfl) ?_
    obtain ⟨h1, h2⟩ := h
    refine lv_if_eq (tgt := 138) C.x C.b dX1_parts_126 (by decide) (fun c => ?_) (fun c => ?_)
    · have h := h1 c; clear h1 h2
      refine lv_goto (tgt := 48) C.x C.b dX1_parts_138 (by decide) ?_
      exact h H locs ls hR hS (lv_sub hl [0, 1, 2] rfl)
    · have h := h2 c; clear h1 h2
      refine lv_aload_n C.x C.b dX1_parts_129 rfl (lv_at hl 0 rfl) ?_
      refine lv_aload C.x C.b dX1_parts_130 (lv_at hl 3 rfl) ?_
      refine z_callF C hR hS hl (n := 1) (C1 := RJ2) (T := TJ2) (N := 3) (ci := 0) (y := yJ2_add) (bytes := cJ2_add) (maxL := 2) (rt := (some .boolean)) (As := [.ref a5]) (rest := []) (x := ⟨"java/util/List", "add", "(Ljava/lang/Object;)Z"⟩) h.1 rfl (lw_F q171 q175 q177 q76 q179) ⟨C.ok.2.1 _ q173, C.ok.2.1 _ q172, C.ok.2.1 _ q178, C.ok.2.1 _ q176, C.ok.2.1 _ q174⟩ hdF_J2_add (by decide) rfl rfl (Nat.le_of_ble_eq_true rfl) dX1_parts_132 h.2 (fun r g_3 hk_ => ?_) (fun x g1 h => z_out C hQ h)
      clear h; obtain ⟨v_4, rfl, zb_, h⟩ := hk_
      show GW X E 8 g_3 137 [(1, .ref a1), (2, .ref a2), (4, .ref a4), (5, .ref a5), (6, .int x6), (7, .int x7)] [.int v_4]
      intro H locs ls hR hS hl
      refine lv_pop C.x C.b dX1_parts_137 rfl ?_
      refine lv_goto (tgt := 48) C.x C.b dX1_parts_138 (by decide) ?_
      exact h H locs ls hR hS (lv_sub hl [0, 1, 2] rfl)
  · have h := h2 c; clear h1 h2
    refine lv_iload C.x C.b dX1_parts_87 (lv_at hl 4 rfl) ?_
    obtain ⟨h1, h2⟩ := h
    refine lv_if_eq (tgt := 124) C.x C.b dX1_parts_89 (by decide) (fun c => ?_) (fun c => ?_)
    · have h := h1 c; clear h1 h2
      refine lv_iload C.x C.b dX1_parts_124 (lv_at hl 4 rfl) ?_
      obtain ⟨h1, h2⟩ := h
      refine lv_if_eq (tgt := 138) C.x C.b dX1_parts_126 (by decide) (fun c => ?_) (fun c => ?_)
      · have h := h1 c; clear h1 h2
        refine lv_goto (tgt := 48) C.x C.b dX1_parts_138 (by decide) ?_
        exact h H locs ls hR hS (lv_sub hl [0, 1, 2] rfl)
      · have h := h2 c; clear h1 h2
        refine lv_aload_n C.x C.b dX1_parts_129 rfl (lv_at hl 0 rfl) ?_
        refine lv_aload C.x C.b dX1_parts_130 (lv_at hl 3 rfl) ?_
        refine z_callF C hR hS hl (n := 1) (C1 := RJ2) (T := TJ2) (N := 3) (ci := 0) (y := yJ2_add) (bytes := cJ2_add) (maxL := 2) (rt := (some .boolean)) (As := [.ref a5]) (rest := []) (x := ⟨"java/util/List", "add", "(Ljava/lang/Object;)Z"⟩) h.1 rfl (lw_F q171 q175 q177 q76 q179) ⟨C.ok.2.1 _ q173, C.ok.2.1 _ q172, C.ok.2.1 _ q178, C.ok.2.1 _ q176, C.ok.2.1 _ q174⟩ hdF_J2_add (by decide) rfl rfl (Nat.le_of_ble_eq_true rfl) dX1_parts_132 h.2 (fun r g_5 hk_ => ?_) (fun x g1 h => z_out C hQ h)
        clear h; obtain ⟨v_6, rfl, zb_, h⟩ := hk_
        show GW X E 8 g_5 137 [(1, .ref a1), (2, .ref a2), (4, .ref a4), (5, .ref a5), (6, .int x6), (7, .int x7)] [.int v_6]
        intro H locs ls hR hS hl
        refine lv_pop C.x C.b dX1_parts_137 rfl ?_
        refine lv_goto (tgt := 48) C.x C.b dX1_parts_138 (by decide) ?_
        exact h H locs ls hR hS (lv_sub hl [0, 1, 2] rfl)
    · have h := h2 c; clear h1 h2
      refine lv_aload_n C.x C.b dX1_parts_92 rfl (lv_at hl 0 rfl) ?_
      refine lv_iload C.x C.b dX1_parts_93 (lv_at hl 5 rfl) ?_
      refine z_callF C hR hS hl (n := 1) (C1 := RJ2) (T := TJ2) (N := 3) (ci := 0) (y := yJ2_get) (bytes := cJ2_get) (maxL := 2) (rt := (some (.object "java/lang/Object"))) (As := [.int x7]) (rest := []) (x := ⟨"java/util/List", "get", "(I)Ljava/lang/Object;"⟩) h.1 rfl (lw_F q378 q381 q383 q76 q385) ⟨C.ok.2.1 _ q380, C.ok.2.1 _ q379, C.ok.2.1 _ q384, C.ok.2.1 _ q382, C.ok.2.1 _ q174⟩ hdF_J2_get (by decide) rfl rfl (Nat.le_of_ble_eq_true rfl) dX1_parts_95 h.2 (fun r g_7 hk_ => ?_) (fun x g1 h => z_out C hQ h)
      clear h; obtain ⟨r_8, rfl, h⟩ := hk_
      show GW X E 8 g_7 100 [(1, .ref a1), (2, .ref a2), (4, .ref a4), (5, .ref a5), (6, .int x6), (7, .int x7)] [va_rf r_8]
      intro H locs ls hR hS hl
      obtain ⟨a_9, e_, h⟩ := h; subst e_
      have hl : lv_has ls 8 [(1, .ref a1), (2, .ref a2), (4, .ref a4), (5, .ref a5), (6, .int x6), (7, .int x7)] := by assumption
      show zV X E H locs (F0 (zm E) 100 ls [.ref a_9])
      refine z_castS C hR (ci := 7) (C1 := RX7) (T := TX7) (N := 7) h.1 rfl q376 dX1_parts_100 ?_
      have h := h.2
      refine lv_aload C.x C.b dX1_parts_103 (lv_at hl 3 rfl) ?_
      refine z_callV C hR hS hl (n := 1) (C1 := RX7) (T := TX7) (N := 7) (ci := 7) (y := yX7_isSame) (bytes := cX7_isSame) (maxL := 3) (rt := (some .boolean)) (As := [.ref a5]) (rest := []) h.1 rfl (lw_V q396 q397 q398 q106 q399) hdV_X7_isSame (by decide) rfl rfl (Nat.le_of_ble_eq_true rfl) dX1_parts_105 h.2 (fun r g_10 hk_ => ?_) (fun x g1 h => z_out C hQ h)
      clear h; obtain ⟨v_11, rfl, zb_, h⟩ := hk_
      show GW X E 8 g_10 108 [(1, .ref a1), (2, .ref a2), (4, .ref a4), (5, .ref a5), (6, .int x6), (7, .int x7)] [.int v_11]
      intro H locs ls hR hS hl
      obtain ⟨h1, h2⟩ := h
      refine lv_if_ne (tgt := 115) C.x C.b dX1_parts_108 (by decide) (fun c => ?_) (fun c => ?_)
      · have h := h1 c; clear h1 h2
        refine lv_iconst (v := 0) C.x C.b dX1_parts_115 (by decide) ?_
        refine lv_istore (lv' := [(6, .int 0), (1, .ref a1), (2, .ref a2), (4, .ref a4), (5, .ref a5), (7, .int x7)]) C.x C.b dX1_parts_116 hl (by decide) rfl (fun ls hl => ?_)
        refine lv_iinc (v := x7 + 1) (lv' := [(7, .int (x7 + 1)), (6, .int 0), (1, .ref a1), (2, .ref a2), (4, .ref a4), (5, .ref a5)]) C.x C.b dX1_parts_118 hl (k := 5) rfl rfl (by decide) rfl (fun ls hl => ?_)
        refine lv_goto (tgt := 76) C.x C.b dX1_parts_121 (by decide) ?_
        exact h H locs ls hR hS (lv_sub hl [2, 3, 4, 5, 1, 0] rfl)
      · have h := h2 c; clear h1 h2
        refine lv_iconst (v := 1) C.x C.b dX1_parts_111 (by decide) ?_
        refine lv_goto (tgt := 116) C.x C.b dX1_parts_112 (by decide) ?_
        refine lv_istore (lv' := [(6, .int 1), (1, .ref a1), (2, .ref a2), (4, .ref a4), (5, .ref a5), (7, .int x7)]) C.x C.b dX1_parts_116 hl (by decide) rfl (fun ls hl => ?_)
        refine lv_iinc (v := x7 + 1) (lv' := [(7, .int (x7 + 1)), (6, .int 1), (1, .ref a1), (2, .ref a2), (4, .ref a4), (5, .ref a5)]) C.x C.b dX1_parts_118 hl (k := 5) rfl rfl (by decide) rfl (fun ls hl => ?_)
        refine lv_goto (tgt := 76) C.x C.b dX1_parts_121 (by decide) ?_
        exact h H locs ls hR hS (lv_sub hl [2, 3, 4, 5, 1, 0] rfl)
set_option maxHeartbeats 4000000 in
theorem mX1_parts {X : zX} {d : Nat} {g : zG} {K : Option Value → zG → Prop} {KX : String → zG → Prop} (hok : zOk X) (a0 : Nat) (h : ∀ E : zM, zC X (d + 1) E RX1 cX1_parts 8 (some .int) "parts" → zQ X E K KX → ∃ k_3 : Nat, zkc k_3 = 0 ∧ zGz g + 1 + 3 ≤ zz X ∧ ∀ a_1 : Nat, zFr g a_1 → ∀ g_2 : zG, g_2 = zSz (zSo g k_3 a_1 [.int 0, .null, .int 0]) (zGz g + 1 + 3) → zCal X d yJ2_init wJ2_init [.ref a_1] g_2 (fun r g_4 => r = none ∧ ∃ (fs_5 : List Value) (a_6 : Nat), zGo g_4 1 a0 = some fs_5 ∧ fs_5[9]? = some (.ref a_6) ∧ zIs g_4 0 a_6 ∧ zCal X d yJ2_iterator wJ2_iterator [.ref a_6] g_4 (fun r g_7 => ∃ a_9 : Nat, r = some (.ref a_9) ∧ GW X E 8 g_7 18 [(1, .ref a_1), (2, .ref a_9)] []) KX) KX) : zCal X (d + 1) yX1_parts wX1_parts [.ref a0] g K KX := by
  refine z_enter hok pn_X1 (Nat.le_of_ble_eq_true rfl) (fun E C hQ => ?_)
  have C : zC X (d + 1) E RX1 cX1_parts 8 (some .int) "parts" := C
  have h := h E C hQ
  show GW X E 8 g 0 [(0, .ref a0)] []
  intro H locs ls hR hS hl
  obtain ⟨k_3, q0, q1, h⟩ := h
  refine z_new C hR hS k_3 q0 (ci := 0) rfl in_J2 tyJ2 tyJ2_ok q118 q119 q76 (fs := [.int 0, .null, .int 0]) zdf_J2 q1 dX1_parts_0 (fun a_1 hf H hR hS => ?_)
  have h := h a_1 hf _ rfl
  generalize zSz (zSo g k_3 a_1 [.int 0, .null, .int 0]) (zGz g + 1 + 3) = g_2 at h hR
  refine lv_dup C.x C.b dX1_parts_3 rfl ?_
  refine z_callI C hR hS hl (n := 0) (y := yJ2_init) (bytes := cJ2_init) (maxL := 1) (As := []) (rest := [.ref a_1]) (lw_meth q122) q76 q120 q121 rfl hdS_J2_init (by decide) rfl rfl (Nat.le_of_ble_eq_true rfl) dX1_parts_4 h (fun r g_4 hk_ => ?_) (fun x g1 h => z_out C hQ h)
  clear h; obtain ⟨rfl, h⟩ := hk_
  show GW X E 8 g_4 7 [(0, .ref a0)] [.ref a_1]
  intro H locs ls hR hS hl
  refine lv_astore_n (lv' := [(1, .ref a_1), (0, .ref a0)]) C.x C.b dX1_parts_7 rfl hl (by decide) rfl (fun ls hl => ?_)
  refine lv_aload_n C.x C.b dX1_parts_8 rfl (lv_at hl 1 rfl) ?_
  obtain ⟨fs_5, a_6, q1, q2, h⟩ := h
  refine z_get C hR q1 rfl (ci := 1) rfl in_X1 9 (by decide) q257 (fun _ h => h) q2 dX1_parts_9 ?_
  refine z_callF C hR hS hl (n := 0) (C1 := RJ2) (T := TJ2) (N := 3) (ci := 0) (y := yJ2_iterator) (bytes := cJ2_iterator) (maxL := 1) (rt := (some (.object "java/util/Iterator"))) (As := []) (rest := []) (x := ⟨"java/util/List", "iterator", "()Ljava/util/Iterator;"⟩) h.1 rfl (lw_F q325 q328 q330 q76 q332) ⟨C.ok.2.1 _ q327, C.ok.2.1 _ q326, C.ok.2.1 _ q331, C.ok.2.1 _ q329, C.ok.2.1 _ q174⟩ hdF_J2_iterator (by decide) rfl rfl (Nat.le_of_ble_eq_true rfl) dX1_parts_12 h.2 (fun r g_7 hk_ => ?_) (fun x g1 h => z_out C hQ h)
  clear h; obtain ⟨a_9, rfl, h⟩ := hk_
  show GW X E 8 g_7 17 [(1, .ref a_1), (0, .ref a0)] [.ref a_9]
  intro H locs ls hR hS hl
  refine lv_astore_n (lv' := [(2, .ref a_9), (1, .ref a_1), (0, .ref a0)]) C.x C.b dX1_parts_17 rfl hl (by decide) rfl (fun ls hl => ?_)
  exact h H locs ls hR hS (lv_sub hl [1, 0] rfl)
theorem hdS_X10_init : yX10_init.cls ≠ "java/lang/invoke/MethodHandle" ∧ yX10_init.cls ≠ "java/lang/invoke/VarHandle" ∧ (parseMethodDescriptor yX10_init.desc).map (fun d => d.parameters.length) = some 4 := by decide +kernel
set_option maxHeartbeats 4000000 in
theorem mX1_orderMany {X : zX} {d : Nat} {g : zG} {K : Option Value → zG → Prop} {KX : String → zG → Prop} (hok : zOk X) (a0 : Nat) (h : zGz g + 1 + 7 ≤ zz X ∧ ∀ a_1 : Nat, zFr g a_1 → ∀ g_2 : zG, g_2 = zSz (zSo g 10 a_1 [.null, .null, .null, .int 0, .int 0, .int 0, .null]) (zGz g + 1 + 7) → zCal X d yX10_init wX10_init [.ref a_1, .ref a0, .null, .null, .int (-1)] g_2 (fun r g_3 => r = none ∧ zIs g_3 10 a_1 ∧ zCal X d yX10_go wX10_go [.ref a_1] g_3 (fun r g_4 => r = none ∧ ∃ (fs_5 : List Value) (v_6 : Int32), zGo g_4 10 a_1 = some fs_5 ∧ fs_5[4]? = some (.int v_6) ∧ K (some (.int v_6)) g_4) KX) KX) : zCal X (d + 1) yX1_orderMany wX1_orderMany [.ref a0] g K KX := by
  refine z_enter hok pn_X1 (Nat.le_of_ble_eq_true rfl) (fun E C hQ => ?_)
  have C : zC X (d + 1) E RX1 cX1_orderMany 2 (some .int) "orderMany" := C
  show GW X E 2 g 0 [(0, .ref a0)] []
  intro H locs ls hR hS hl
  obtain ⟨q1, h⟩ := h
  refine z_new C hR hS 10 rfl (ci := 10) rfl in_X10 tyX10 tyX10_ok q409 q410 q109 (fs := [.null, .null, .null, .int 0, .int 0, .int 0, .null]) zdf_X10 q1 dX1_orderMany_0 (fun a_1 hf H hR hS => ?_)
  have h := h a_1 hf _ rfl
  generalize zSz (zSo g 10 a_1 [.null, .null, .null, .int 0, .int 0, .int 0, .null]) (zGz g + 1 + 7) = g_2 at h hR
  refine lv_dup C.x C.b dX1_orderMany_3 rfl ?_
  refine lv_aload_n C.x C.b dX1_orderMany_4 rfl (lv_at hl 0 rfl) ?_
  refine lv_null C.x C.b dX1_orderMany_5 ?_
  refine lv_null C.x C.b dX1_orderMany_6 ?_
  refine lv_iconst (v := (-1)) C.x C.b dX1_orderMany_7 (by decide) ?_
  refine z_callI C hR hS hl (n := 4) (y := yX10_init) (bytes := cX10_init) (maxL := 5) (As := [.ref a0, .null, .null, .int (-1)]) (rest := [.ref a_1]) (lw_meth q413) q109 q411 q412 rfl hdS_X10_init (by decide) rfl rfl (Nat.le_of_ble_eq_true rfl) dX1_orderMany_8 h (fun r g_3 hk_ => ?_) (fun x g1 h => z_out C hQ h)
  clear h; obtain ⟨rfl, h⟩ := hk_
  show GW X E 2 g_3 11 [(0, .ref a0)] [.ref a_1]
  intro H locs ls hR hS hl
  refine lv_astore_n (lv' := [(1, .ref a_1), (0, .ref a0)]) C.x C.b dX1_orderMany_11 rfl hl (by decide) rfl (fun ls hl => ?_)
  refine lv_aload_n C.x C.b dX1_orderMany_12 rfl (lv_at hl 0 rfl) ?_
  refine z_callV C hR hS hl (n := 0) (C1 := RX10) (T := TX10) (N := 7) (ci := 10) (y := yX10_go) (bytes := cX10_go) (maxL := 6) (rt := none) (As := []) (rest := []) h.1 rfl (lw_V q441 q442 q443 q109 q444) hdV_X10_go (by decide) rfl rfl (Nat.le_of_ble_eq_true rfl) dX1_orderMany_13 h.2 (fun r g_4 hk_ => ?_) (fun x g1 h => z_out C hQ h)
  clear h; obtain ⟨rfl, h⟩ := hk_
  show GW X E 2 g_4 16 [(1, .ref a_1), (0, .ref a0)] []
  intro H locs ls hR hS hl
  refine lv_aload_n C.x C.b dX1_orderMany_16 rfl (lv_at hl 0 rfl) ?_
  obtain ⟨fs_5, v_6, q1, q2, h⟩ := h
  refine z_getN C hR q1 rfl (ci := 10) rfl in_X10 4 (by decide) q422 (fun _ h => h) q2 dX1_orderMany_17 ?_
  exact z_iret C hQ dX1_orderMany_20 h H locs ls hR hS hl
theorem hdV_X1_orderMany : yX1_orderMany.cls = RX1 ∧ yX1_orderMany.cls ≠ "java/lang/invoke/MethodHandle" ∧ yX1_orderMany.cls ≠ "java/lang/invoke/VarHandle" ∧ (parseMethodDescriptor yX1_orderMany.desc).map (fun d => d.parameters.length) = some 0 := by decide +kernel
set_option maxHeartbeats 4000000 in
theorem mX1_orders {X : zX} {d : Nat} {g : zG} {K : Option Value → zG → Prop} {KX : String → zG → Prop} (hok : zOk X) (a0 : Nat) (h : zIs g 1 a0 ∧ zCal X d yX1_orderMany wX1_orderMany [.ref a0] g (fun r g_1 => ∃ v_2 : Int32, r = some (.int v_2) ∧ K (some (.int v_2)) g_1) KX) : zCal X (d + 1) yX1_orders wX1_orders [.ref a0] g K KX := by
  refine z_enter hok pn_X1 (Nat.le_of_ble_eq_true rfl) (fun E C hQ => ?_)
  have C : zC X (d + 1) E RX1 cX1_orders 1 (some .int) "orders" := C
  show GW X E 1 g 0 [(0, .ref a0)] []
  intro H locs ls hR hS hl
  refine lv_aload_n C.x C.b dX1_orders_0 rfl (lv_at hl 0 rfl) ?_
  refine z_callV C hR hS hl (n := 0) (C1 := RX1) (T := TX1) (N := 12) (ci := 1) (y := yX1_orderMany) (bytes := cX1_orderMany) (maxL := 2) (rt := (some .int)) (As := []) (rest := []) h.1 rfl (lw_V q405 q407 qs3 q73 q408) hdV_X1_orderMany (by decide) rfl rfl (Nat.le_of_ble_eq_true rfl) dX1_orders_1 h.2 (fun r g_1 hk_ => ?_) (fun x g1 h => z_out C hQ h)
  clear h; obtain ⟨v_2, rfl, h⟩ := hk_
  show GW X E 1 g_1 4 [(0, .ref a0)] [.int v_2]
  intro H locs ls hR hS hl
  exact z_iret C hQ dX1_orders_4 h H locs ls hR hS hl
set_option maxHeartbeats 4000000 in
theorem bX1_ids_4 {X : zX} {d : Nat} {E : zM} {K : Option Value → zG → Prop} {KX : String → zG → Prop} (C : zC X (d + 1) E RX1 cX1_ids 3 (some .int) "ids") (hQ : zQ X E K KX) (g : zG) (a0 : Nat) (x1 : Int32) (x2 : Int32) (h : ∃ (fs_1 : List Value) (a_2 : Nat), zGo g 1 a0 = some fs_1 ∧ fs_1[2]? = some (.ref a_2) ∧ zIs g 0 a_2 ∧ zCal X d yJ2_size wJ2_size [.ref a_2] g (fun r g_3 => ∃ v_4 : Int32, r = some (.int v_4) ∧ (v_4 ≤ x2 → K (some (.int x1)) g_3) ∧ (¬ v_4 ≤ x2 → ∃ (fs_5 : List Value) (a_6 : Nat), zGo g_3 1 a0 = some fs_5 ∧ fs_5[2]? = some (.ref a_6) ∧ zIs g_3 0 a_6 ∧ zCal X d yJ2_get wJ2_get [.ref a_6, .int x2] g_3 (fun r g_7 => ∃ r_8 : Option Nat, r = some (va_rf r_8) ∧ ∃ a_9 : Nat, r_8 = some a_9 ∧ zIs g_7 4 a_9 ∧ ∃ (fs_10 : List Value) (v_11 : Int32), zGo g_7 4 a_9 = some fs_10 ∧ fs_10[4]? = some (.int v_11) ∧ (¬ v_11 = (-1) → ∃ (fs_12 : List Value) (a_13 : Nat), zGo g_7 1 a0 = some fs_12 ∧ fs_12[2]? = some (.ref a_13) ∧ zIs g_7 0 a_13 ∧ zCal X d yJ2_get wJ2_get [.ref a_13, .int x2] g_7 (fun r g_14 => ∃ r_15 : Option Nat, r = some (va_rf r_15) ∧ ∃ a_16 : Nat, r_15 = some a_16 ∧ zIs g_14 4 a_16 ∧ ∃ (fs_17 : List Value) (v_18 : Int32), zGo g_14 4 a_16 = some fs_17 ∧ fs_17[4]? = some (.int v_18) ∧ GW X E 3 g_14 4 [(0, .ref a0), (1, .int (x1 ||| (1 <<< (v_18 &&& 31)))), (2, .int (x2 + 1))] []) KX) ∧ (v_11 = (-1) → GW X E 3 g_7 4 [(0, .ref a0), (1, .int (x1 ||| 0)), (2, .int (x2 + 1))] [])) KX)) KX) : GW X E 3 g 4 [(0, .ref a0), (1, .int x1), (2, .int x2)] [] := by
  intro H locs ls hR hS hl
  refine lv_iload_n C.x C.b dX1_ids_4 rfl (lv_at hl 2 rfl) ?_
  refine lv_aload_n C.x C.b dX1_ids_5 rfl (lv_at hl 0 rfl) ?_
  obtain ⟨fs_1, a_2, q1, q2, h⟩ := h
  refine z_get C hR q1 rfl (ci := 1) rfl in_X1 2 (by decide) q245 (fun _ h => h) q2 dX1_ids_6 ?_
  refine z_callF C hR hS hl (n := 0) (C1 := RJ2) (T := TJ2) (N := 3) (ci := 0) (y := yJ2_size) (bytes := cJ2_size) (maxL := 1) (rt := (some .int)) (As := []) (rest := [.int x2]) (x := ⟨"java/util/List", "size", "()I"⟩) h.1 rfl (lw_F q291 q294 q296 q76 q298) ⟨C.ok.2.1 _ q293, C.ok.2.1 _ q292, C.ok.2.1 _ q297, C.ok.2.1 _ q295, C.ok.2.1 _ q174⟩ hdF_J2_size (by decide) rfl rfl (Nat.le_of_ble_eq_true rfl) dX1_ids_9 h.2 (fun r g_3 hk_ => ?_) (fun x g1 h => z_out C hQ h)
  clear h; obtain ⟨v_4, rfl, h⟩ := hk_
  show GW X E 3 g_3 14 [(0, .ref a0), (1, .int x1), (2, .int x2)] [.int v_4, .int x2]
  intro H locs ls hR hS hl
  obtain ⟨h1, h2⟩ := h
  refine lv_icmp_ge (tgt := 68) C.x C.b dX1_ids_14 (by decide) (fun c => ?_) (fun c => ?_)
  · have h := h1 c; clear h1 h2
    refine lv_iload_n C.x C.b dX1_ids_68 rfl (lv_at hl 1 rfl) ?_
    exact z_iret C hQ dX1_ids_69 h H locs ls hR hS hl
  · have h := h2 c; clear h1 h2
    refine lv_iload_n C.x C.b dX1_ids_17 rfl (lv_at hl 1 rfl) ?_
    refine lv_aload_n C.x C.b dX1_ids_18 rfl (lv_at hl 0 rfl) ?_
    obtain ⟨fs_5, a_6, q1, q2, h⟩ := h
    refine z_get C hR q1 rfl (ci := 1) rfl in_X1 2 (by decide) q245 (fun _ h => h) q2 dX1_ids_19 ?_
    refine lv_iload_n C.x C.b dX1_ids_22 rfl (lv_at hl 2 rfl) ?_
    refine z_callF C hR hS hl (n := 1) (C1 := RJ2) (T := TJ2) (N := 3) (ci := 0) (y := yJ2_get) (bytes := cJ2_get) (maxL := 2) (rt := (some (.object "java/lang/Object"))) (As := [.int x2]) (rest := [.int x1]) (x := ⟨"java/util/List", "get", "(I)Ljava/lang/Object;"⟩) h.1 rfl (lw_F q378 q381 q383 q76 q385) ⟨C.ok.2.1 _ q380, C.ok.2.1 _ q379, C.ok.2.1 _ q384, C.ok.2.1 _ q382, C.ok.2.1 _ q174⟩ hdF_J2_get (by decide) rfl rfl (Nat.le_of_ble_eq_true rfl) dX1_ids_23 h.2 (fun r g_7 hk_ => ?_) (fun x g1 h => z_out C hQ h)
    clear h; obtain ⟨r_8, rfl, h⟩ := hk_
    show GW X E 3 g_7 28 [(0, .ref a0), (1, .int x1), (2, .int x2)] [va_rf r_8, .int x1]
    intro H locs ls hR hS hl
    obtain ⟨a_9, e_, h⟩ := h; subst e_
    have hl : lv_has ls 3 [(0, .ref a0), (1, .int x1), (2, .int x2)] := by assumption
    show zV X E H locs (F0 (zm E) 28 ls [.ref a_9, .int x1])
    refine z_castS C hR (ci := 4) (C1 := RX4) (T := TX4) (N := 7) h.1 rfl q455 dX1_ids_28 ?_
    have h := h.2
    obtain ⟨fs_10, v_11, q1, q2, h⟩ := h
    refine z_getN C hR q1 rfl (ci := 4) rfl in_X4 4 (by decide) q797 (fun _ h => h) q2 dX1_ids_31 ?_
    refine lv_iconst (v := (-1)) C.x C.b dX1_ids_34 (by decide) ?_
    obtain ⟨h1, h2⟩ := h
    refine lv_icmp_ne (tgt := 42) C.x C.b dX1_ids_35 (by decide) (fun c => ?_) (fun c => ?_)
    · have h := h1 c; clear h1 h2
      refine lv_iconst (v := 1) C.x C.b dX1_ids_42 (by decide) ?_
      refine lv_aload_n C.x C.b dX1_ids_43 rfl (lv_at hl 0 rfl) ?_
      obtain ⟨fs_12, a_13, q1, q2, h⟩ := h
      refine z_get C hR q1 rfl (ci := 1) rfl in_X1 2 (by decide) q245 (fun _ h => h) q2 dX1_ids_44 ?_
      refine lv_iload_n C.x C.b dX1_ids_47 rfl (lv_at hl 2 rfl) ?_
      refine z_callF C hR hS hl (n := 1) (C1 := RJ2) (T := TJ2) (N := 3) (ci := 0) (y := yJ2_get) (bytes := cJ2_get) (maxL := 2) (rt := (some (.object "java/lang/Object"))) (As := [.int x2]) (rest := [.int 1, .int x1]) (x := ⟨"java/util/List", "get", "(I)Ljava/lang/Object;"⟩) h.1 rfl (lw_F q378 q381 q383 q76 q385) ⟨C.ok.2.1 _ q380, C.ok.2.1 _ q379, C.ok.2.1 _ q384, C.ok.2.1 _ q382, C.ok.2.1 _ q174⟩ hdF_J2_get (by decide) rfl rfl (Nat.le_of_ble_eq_true rfl) dX1_ids_48 h.2 (fun r g_14 hk_ => ?_) (fun x g1 h => z_out C hQ h)
      clear h; obtain ⟨r_15, rfl, h⟩ := hk_
      show GW X E 3 g_14 53 [(0, .ref a0), (1, .int x1), (2, .int x2)] [va_rf r_15, .int 1, .int x1]
      intro H locs ls hR hS hl
      obtain ⟨a_16, e_, h⟩ := h; subst e_
      have hl : lv_has ls 3 [(0, .ref a0), (1, .int x1), (2, .int x2)] := by assumption
      show zV X E H locs (F0 (zm E) 53 ls [.ref a_16, .int 1, .int x1])
      refine z_castS C hR (ci := 4) (C1 := RX4) (T := TX4) (N := 7) h.1 rfl q455 dX1_ids_53 ?_
      have h := h.2
      obtain ⟨fs_17, v_18, q1, q2, h⟩ := h
      refine z_getN C hR q1 rfl (ci := 4) rfl in_X4 4 (by decide) q797 (fun _ h => h) q2 dX1_ids_56 ?_
      refine lv_ishl C.x C.b dX1_ids_59 ?_
      refine lv_ior C.x C.b dX1_ids_60 ?_
      refine lv_istore_n (lv' := [(1, .int (x1 ||| (1 <<< (v_18 &&& 31)))), (0, .ref a0), (2, .int x2)]) C.x C.b dX1_ids_61 rfl hl (by decide) rfl (fun ls hl => ?_)
      refine lv_iinc (v := x2 + 1) (lv' := [(2, .int (x2 + 1)), (1, .int (x1 ||| (1 <<< (v_18 &&& 31)))), (0, .ref a0)]) C.x C.b dX1_ids_62 hl (k := 2) rfl rfl (by decide) rfl (fun ls hl => ?_)
      refine lv_goto (tgt := 4) C.x C.b dX1_ids_65 (by decide) ?_
      exact h H locs ls hR hS (lv_sub hl [2, 1, 0] rfl)
    · have h := h2 c; clear h1 h2
      refine lv_iconst (v := 0) C.x C.b dX1_ids_38 (by decide) ?_
      refine lv_goto (tgt := 60) C.x C.b dX1_ids_39 (by decide) ?_
      refine lv_ior C.x C.b dX1_ids_60 ?_
      refine lv_istore_n (lv' := [(1, .int (x1 ||| 0)), (0, .ref a0), (2, .int x2)]) C.x C.b dX1_ids_61 rfl hl (by decide) rfl (fun ls hl => ?_)
      refine lv_iinc (v := x2 + 1) (lv' := [(2, .int (x2 + 1)), (1, .int (x1 ||| 0)), (0, .ref a0)]) C.x C.b dX1_ids_62 hl (k := 2) rfl rfl (by decide) rfl (fun ls hl => ?_)
      refine lv_goto (tgt := 4) C.x C.b dX1_ids_65 (by decide) ?_
      exact h H locs ls hR hS (lv_sub hl [2, 1, 0] rfl)
set_option maxHeartbeats 4000000 in
theorem mX1_ids {X : zX} {d : Nat} {g : zG} {K : Option Value → zG → Prop} {KX : String → zG → Prop} (hok : zOk X) (a0 : Nat) (h : ∀ E : zM, zC X (d + 1) E RX1 cX1_ids 3 (some .int) "ids" → zQ X E K KX → GW X E 3 g 4 [(0, .ref a0), (1, .int 0), (2, .int 0)] []) : zCal X (d + 1) yX1_ids wX1_ids [.ref a0] g K KX := by
  refine z_enter hok pn_X1 (Nat.le_of_ble_eq_true rfl) (fun E C hQ => ?_)
  have C : zC X (d + 1) E RX1 cX1_ids 3 (some .int) "ids" := C
  have h := h E C hQ
  show GW X E 3 g 0 [(0, .ref a0)] []
  intro H locs ls hR hS hl
  refine lv_iconst (v := 0) C.x C.b dX1_ids_0 (by decide) ?_
  refine lv_istore_n (lv' := [(1, .int 0), (0, .ref a0)]) C.x C.b dX1_ids_1 rfl hl (by decide) rfl (fun ls hl => ?_)
  refine lv_iconst (v := 0) C.x C.b dX1_ids_2 (by decide) ?_
  refine lv_istore_n (lv' := [(2, .int 0), (1, .int 0), (0, .ref a0)]) C.x C.b dX1_ids_3 rfl hl (by decide) rfl (fun ls hl => ?_)
  exact h H locs ls hR hS (lv_sub hl [2, 1, 0] rfl)
set_option maxHeartbeats 4000000 in
theorem mX1_negated {X : zX} {d : Nat} {g : zG} {K : Option Value → zG → Prop} {KX : String → zG → Prop} (hok : zOk X) (x0 : Int32) (h : (¬ x0 = 2 → K (some (.int (1 - x0))) g) ∧ (x0 = 2 → K (some (.int 2)) g)) : zCal X d yX1_negated wX1_negated [.int x0] g K KX := by
  refine z_enter hok pn_X1 (Nat.le_of_ble_eq_true rfl) (fun E C hQ => ?_)
  have C : zC X d E RX1 cX1_negated 1 (some .int) "negated" := C
  show GW X E 1 g 0 [(0, .int x0)] []
  intro H locs ls hR hS hl
  refine lv_iload_n C.x C.b dX1_negated_0 rfl (lv_at hl 0 rfl) ?_
  refine lv_iconst (v := 2) C.x C.b dX1_negated_1 (by decide) ?_
  obtain ⟨h1, h2⟩ := h
  refine lv_icmp_ne (tgt := 9) C.x C.b dX1_negated_2 (by decide) (fun c => ?_) (fun c => ?_)
  · have h := h1 c; clear h1 h2
    refine lv_iconst (v := 1) C.x C.b dX1_negated_9 (by decide) ?_
    refine lv_iload_n C.x C.b dX1_negated_10 rfl (lv_at hl 0 rfl) ?_
    refine lv_isub C.x C.b dX1_negated_11 ?_
    exact z_iret C hQ dX1_negated_12 h H locs ls hR hS hl
  · have h := h2 c; clear h1 h2
    refine lv_iconst (v := 2) C.x C.b dX1_negated_5 (by decide) ?_
    refine lv_goto (tgt := 12) C.x C.b dX1_negated_6 (by decide) ?_
    exact z_iret C hQ dX1_negated_12 h H locs ls hR hS hl
set_option maxHeartbeats 4000000 in
theorem mX1_and {X : zX} {d : Nat} {g : zG} {K : Option Value → zG → Prop} {KX : String → zG → Prop} (hok : zOk X) (x0 : Int32) (x1 : Int32) (h : (x0 = 0 → K (some (.int 0)) g) ∧ (¬ x0 = 0 → (¬ x1 = 0 → (x0 = 2 → K (some (.int 2)) g) ∧ (¬ x0 = 2 → (¬ x1 = 2 → K (some (.int 1)) g) ∧ (x1 = 2 → K (some (.int 2)) g))) ∧ (x1 = 0 → K (some (.int 0)) g))) : zCal X d yX1_and wX1_and [.int x0, .int x1] g K KX := by
  refine z_enter hok pn_X1 (Nat.le_of_ble_eq_true rfl) (fun E C hQ => ?_)
  have C : zC X d E RX1 cX1_and 2 (some .int) "and" := C
  show GW X E 2 g 0 [(0, .int x0), (1, .int x1)] []
  intro H locs ls hR hS hl
  refine lv_iload_n C.x C.b dX1_and_0 rfl (lv_at hl 0 rfl) ?_
  obtain ⟨h1, h2⟩ := h
  refine lv_if_eq (tgt := 8) C.x C.b dX1_and_1 (by decide) (fun c => ?_) (fun c => ?_)
  · have h := h1 c; clear h1 h2
    refine lv_iconst (v := 0) C.x C.b dX1_and_8 (by decide) ?_
    refine lv_goto (tgt := 27) C.x C.b dX1_and_9 (by decide) ?_
    exact z_iret C hQ dX1_and_27 h H locs ls hR hS hl
  · have h := h2 c; clear h1 h2
    refine lv_iload_n C.x C.b dX1_and_4 rfl (lv_at hl 1 rfl) ?_
    obtain ⟨h1, h2⟩ := h
    refine lv_if_ne (tgt := 12) C.x C.b dX1_and_5 (by decide) (fun c => ?_) (fun c => ?_)
    · have h := h1 c; clear h1 h2
      refine lv_iload_n C.x C.b dX1_and_12 rfl (lv_at hl 0 rfl) ?_
      refine lv_iconst (v := 2) C.x C.b dX1_and_13 (by decide) ?_
      obtain ⟨h1, h2⟩ := h
      refine lv_icmp_eq (tgt := 22) C.x C.b dX1_and_14 (by decide) (fun c => ?_) (fun c => ?_)
      · have h := h1 c; clear h1 h2
        refine lv_iconst (v := 2) C.x C.b dX1_and_22 (by decide) ?_
        refine lv_goto (tgt := 27) C.x C.b dX1_and_23 (by decide) ?_
        exact z_iret C hQ dX1_and_27 h H locs ls hR hS hl
      · have h := h2 c; clear h1 h2
        refine lv_iload_n C.x C.b dX1_and_17 rfl (lv_at hl 1 rfl) ?_
        refine lv_iconst (v := 2) C.x C.b dX1_and_18 (by decide) ?_
        obtain ⟨h1, h2⟩ := h
        refine lv_icmp_ne (tgt := 26) C.x C.b dX1_and_19 (by decide) (fun c => ?_) (fun c => ?_)
        · have h := h1 c; clear h1 h2
          refine lv_iconst (v := 1) C.x C.b dX1_and_26 (by decide) ?_
          exact z_iret C hQ dX1_and_27 h H locs ls hR hS hl
        · have h := h2 c; clear h1 h2
          refine lv_iconst (v := 2) C.x C.b dX1_and_22 (by decide) ?_
          refine lv_goto (tgt := 27) C.x C.b dX1_and_23 (by decide) ?_
          exact z_iret C hQ dX1_and_27 h H locs ls hR hS hl
    · have h := h2 c; clear h1 h2
      refine lv_iconst (v := 0) C.x C.b dX1_and_8 (by decide) ?_
      refine lv_goto (tgt := 27) C.x C.b dX1_and_9 (by decide) ?_
      exact z_iret C hQ dX1_and_27 h H locs ls hR hS hl
set_option maxHeartbeats 4000000 in
theorem mX1_or {X : zX} {d : Nat} {g : zG} {K : Option Value → zG → Prop} {KX : String → zG → Prop} (hok : zOk X) (x0 : Int32) (x1 : Int32) (h : (x0 = 1 → K (some (.int 1)) g) ∧ (¬ x0 = 1 → (¬ x1 = 1 → (x0 = 2 → K (some (.int 2)) g) ∧ (¬ x0 = 2 → (¬ x1 = 2 → K (some (.int 0)) g) ∧ (x1 = 2 → K (some (.int 2)) g))) ∧ (x1 = 1 → K (some (.int 1)) g))) : zCal X d yX1_or wX1_or [.int x0, .int x1] g K KX := by
  refine z_enter hok pn_X1 (Nat.le_of_ble_eq_true rfl) (fun E C hQ => ?_)
  have C : zC X d E RX1 cX1_or 2 (some .int) "or" := C
  show GW X E 2 g 0 [(0, .int x0), (1, .int x1)] []
  intro H locs ls hR hS hl
  refine lv_iload_n C.x C.b dX1_or_0 rfl (lv_at hl 0 rfl) ?_
  refine lv_iconst (v := 1) C.x C.b dX1_or_1 (by decide) ?_
  obtain ⟨h1, h2⟩ := h
  refine lv_icmp_eq (tgt := 10) C.x C.b dX1_or_2 (by decide) (fun c => ?_) (fun c => ?_)
  · have h := h1 c; clear h1 h2
    refine lv_iconst (v := 1) C.x C.b dX1_or_10 (by decide) ?_
    refine lv_goto (tgt := 29) C.x C.b dX1_or_11 (by decide) ?_
    exact z_iret C hQ dX1_or_29 h H locs ls hR hS hl
  · have h := h2 c; clear h1 h2
    refine lv_iload_n C.x C.b dX1_or_5 rfl (lv_at hl 1 rfl) ?_
    refine lv_iconst (v := 1) C.x C.b dX1_or_6 (by decide) ?_
    obtain ⟨h1, h2⟩ := h
    refine lv_icmp_ne (tgt := 14) C.x C.b dX1_or_7 (by decide) (fun c => ?_) (fun c => ?_)
    · have h := h1 c; clear h1 h2
      refine lv_iload_n C.x C.b dX1_or_14 rfl (lv_at hl 0 rfl) ?_
      refine lv_iconst (v := 2) C.x C.b dX1_or_15 (by decide) ?_
      obtain ⟨h1, h2⟩ := h
      refine lv_icmp_eq (tgt := 24) C.x C.b dX1_or_16 (by decide) (fun c => ?_) (fun c => ?_)
      · have h := h1 c; clear h1 h2
        refine lv_iconst (v := 2) C.x C.b dX1_or_24 (by decide) ?_
        refine lv_goto (tgt := 29) C.x C.b dX1_or_25 (by decide) ?_
        exact z_iret C hQ dX1_or_29 h H locs ls hR hS hl
      · have h := h2 c; clear h1 h2
        refine lv_iload_n C.x C.b dX1_or_19 rfl (lv_at hl 1 rfl) ?_
        refine lv_iconst (v := 2) C.x C.b dX1_or_20 (by decide) ?_
        obtain ⟨h1, h2⟩ := h
        refine lv_icmp_ne (tgt := 28) C.x C.b dX1_or_21 (by decide) (fun c => ?_) (fun c => ?_)
        · have h := h1 c; clear h1 h2
          refine lv_iconst (v := 0) C.x C.b dX1_or_28 (by decide) ?_
          exact z_iret C hQ dX1_or_29 h H locs ls hR hS hl
        · have h := h2 c; clear h1 h2
          refine lv_iconst (v := 2) C.x C.b dX1_or_24 (by decide) ?_
          refine lv_goto (tgt := 29) C.x C.b dX1_or_25 (by decide) ?_
          exact z_iret C hQ dX1_or_29 h H locs ls hR hS hl
    · have h := h2 c; clear h1 h2
      refine lv_iconst (v := 1) C.x C.b dX1_or_10 (by decide) ?_
      refine lv_goto (tgt := 29) C.x C.b dX1_or_11 (by decide) ?_
      exact z_iret C hQ dX1_or_29 h H locs ls hR hS hl
set_option maxHeartbeats 4000000 in
theorem mX1_isIn {X : zX} {d : Nat} {g : zG} {K : Option Value → zG → Prop} {KX : String → zG → Prop} (hok : zOk X) (x0 : Int32) (x1 : Int32) (x2 : Int32) (h : (x0 < x1 → K (some (.int 0)) g) ∧ (¬ x0 < x1 → (x2 < x0 → K (some (.int 0)) g) ∧ (¬ x2 < x0 → K (some (.int 1)) g))) : zCal X d yX1_isIn wX1_isIn [.int x0, .int x1, .int x2] g K KX := by
  refine z_enter hok pn_X1 (Nat.le_of_ble_eq_true rfl) (fun E C hQ => ?_)
  have C : zC X d E RX1 cX1_isIn 3 (some .boolean) "isIn" := C
  show GW X E 3 g 0 [(0, .int x0), (1, .int x1), (2, .int x2)] []
  intro H locs ls hR hS hl
  refine lv_iload_n C.x C.b dX1_isIn_0 rfl (lv_at hl 0 rfl) ?_
  refine lv_iload_n C.x C.b dX1_isIn_1 rfl (lv_at hl 1 rfl) ?_
  obtain ⟨h1, h2⟩ := h
  refine lv_icmp_lt (tgt := 14) C.x C.b dX1_isIn_2 (by decide) (fun c => ?_) (fun c => ?_)
  · have h := h1 c; clear h1 h2
    refine lv_iconst (v := 0) C.x C.b dX1_isIn_14 (by decide) ?_
    exact z_zret C hQ rfl dX1_isIn_15 h H locs ls hR hS hl
  · have h := h2 c; clear h1 h2
    refine lv_iload_n C.x C.b dX1_isIn_5 rfl (lv_at hl 0 rfl) ?_
    refine lv_iload_n C.x C.b dX1_isIn_6 rfl (lv_at hl 2 rfl) ?_
    obtain ⟨h1, h2⟩ := h
    refine lv_icmp_gt (tgt := 14) C.x C.b dX1_isIn_7 (by decide) (fun c => ?_) (fun c => ?_)
    · have h := h1 c; clear h1 h2
      refine lv_iconst (v := 0) C.x C.b dX1_isIn_14 (by decide) ?_
      exact z_zret C hQ rfl dX1_isIn_15 h H locs ls hR hS hl
    · have h := h2 c; clear h1 h2
      refine lv_iconst (v := 1) C.x C.b dX1_isIn_10 (by decide) ?_
      refine lv_goto (tgt := 15) C.x C.b dX1_isIn_11 (by decide) ?_
      exact z_zret C hQ rfl dX1_isIn_15 h H locs ls hR hS hl
theorem hdS_X1_isIn : yX1_isIn.cls ≠ "java/lang/invoke/MethodHandle" ∧ yX1_isIn.cls ≠ "java/lang/invoke/VarHandle" ∧ (parseMethodDescriptor yX1_isIn.desc).map (fun d => d.parameters.length) = some 3 := by decide +kernel
set_option maxHeartbeats 4000000 in
theorem mX1_isNode {X : zX} {d : Nat} {g : zG} {K : Option Value → zG → Prop} {KX : String → zG → Prop} (hok : zOk X) (x0 : Int32) (h : zCal X d yX1_isIn wX1_isIn [.int x0, .int 0, .int 3] g (fun r g_1 => ∃ v_2 : Int32, r = some (.int v_2) ∧ zbo v_2 ∧ zbo v_2 ∧ K (some (.int v_2)) g_1) KX) : zCal X (d + 1) yX1_isNode wX1_isNode [.int x0] g K KX := by
  refine z_enter hok pn_X1 (Nat.le_of_ble_eq_true rfl) (fun E C hQ => ?_)
  have C : zC X (d + 1) E RX1 cX1_isNode 1 (some .boolean) "isNode" := C
  show GW X E 1 g 0 [(0, .int x0)] []
  intro H locs ls hR hS hl
  refine lv_iload_n C.x C.b dX1_isNode_0 rfl (lv_at hl 0 rfl) ?_
  refine lv_iconst (v := 0) C.x C.b dX1_isNode_1 (by decide) ?_
  refine lv_iconst (v := 3) C.x C.b dX1_isNode_2 (by decide) ?_
  refine z_callS C hR hS hl (n := 3) (y := yX1_isIn) (bytes := cX1_isIn) (maxL := 3) (rt := (some .boolean)) (As := [.int x0, .int 0, .int 3]) (rest := []) (lw_S q701 q702 q73 q703) hdS_X1_isIn (by decide) rfl rfl (Nat.le_of_ble_eq_true rfl) dX1_isNode_3 h (fun r g_1 hk_ => ?_) (fun x g1 h => z_out C hQ h)
  clear h; obtain ⟨v_2, rfl, zb_, h⟩ := hk_
  show GW X E 1 g_1 6 [(0, .int x0)] [.int v_2]
  intro H locs ls hR hS hl
  exact z_zret C hQ (zbo_n h.1) dX1_isNode_6 h.2 H locs ls hR hS hl
theorem hdS_X1_check : yX1_check.cls ≠ "java/lang/invoke/MethodHandle" ∧ yX1_check.cls ≠ "java/lang/invoke/VarHandle" ∧ (parseMethodDescriptor yX1_check.desc).map (fun d => d.parameters.length) = some 1 := by decide +kernel
theorem hdS_X1_isNode : yX1_isNode.cls ≠ "java/lang/invoke/MethodHandle" ∧ yX1_isNode.cls ≠ "java/lang/invoke/VarHandle" ∧ (parseMethodDescriptor yX1_isNode.desc).map (fun d => d.parameters.length) = some 1 := by decide +kernel
theorem hdS_X1_place : yX1_place.cls ≠ "java/lang/invoke/MethodHandle" ∧ yX1_place.cls ≠ "java/lang/invoke/VarHandle" ∧ (parseMethodDescriptor yX1_place.desc).map (fun d => d.parameters.length) = some 1 := by decide +kernel
set_option maxHeartbeats 4000000 in
theorem mX1_setOffset {X : zX} {d : Nat} {g : zG} {K : Option Value → zG → Prop} {KX : String → zG → Prop} (hok : zOk X) (a0 : Nat) (x1 : Int32) (x2 : Int32) (h : zCal X d yX1_isNode wX1_isNode [.int x1] g (fun r g_1 => ∃ v_2 : Int32, r = some (.int v_2) ∧ zbo v_2 ∧ zCal X d yX1_place wX1_place [.int v_2] g_1 (fun r g_3 => r = none ∧ zCal X d yX1_isIn wX1_isIn [.int x2, .int (-1000), .int 1000] g_3 (fun r g_4 => ∃ v_5 : Int32, r = some (.int v_5) ∧ zbo v_5 ∧ zCal X d yX1_check wX1_check [.int v_5] g_4 (fun r g_6 => r = none ∧ ∃ (fs_7 : List Value) (a_8 : Nat), zGo g_6 1 a0 = some fs_7 ∧ fs_7[0]? = some (.ref a_8) ∧ ∃ (n_9 : Nat) (f_10 : Nat → Int32), zGi g_6 50 a_8 = some (n_9, f_10) ∧ vp_in x1 n_9 ∧ ∀ v_11 : Int32, v_11 = f_10 x1.toNatClampNeg → ∃ (fs_12 : List Value) (a_13 : Nat), zGo g_6 1 a0 = some fs_12 ∧ fs_12[0]? = some (.ref a_13) ∧ ∃ (n_14 : Nat) (f_15 : Nat → Int32), zGi g_6 50 a_13 = some (n_14, f_15) ∧ vp_in x1 n_14 ∧ ∀ g_16 : zG, g_16 = zSi g_6 50 a_13 n_14 (upd f_15 x1.toNatClampNeg x2) → K (some (.int v_11)) g_16) KX) KX) KX) KX) : zCal X (d + 1) yX1_setOffset wX1_setOffset [.ref a0, .int x1, .int x2] g K KX := by
  refine z_enter hok pn_X1 (Nat.le_of_ble_eq_true rfl) (fun E C hQ => ?_)
  have C : zC X (d + 1) E RX1 cX1_setOffset 4 (some .int) "setOffset" := C
  show GW X E 4 g 0 [(0, .ref a0), (1, .int x1), (2, .int x2)] []
  intro H locs ls hR hS hl
  refine lv_iload_n C.x C.b dX1_setOffset_0 rfl (lv_at hl 1 rfl) ?_
  refine z_callS C hR hS hl (n := 1) (y := yX1_isNode) (bytes := cX1_isNode) (maxL := 1) (rt := (some .boolean)) (As := [.int x1]) (rest := []) (lw_S q698 q699 q73 q700) hdS_X1_isNode (by decide) rfl rfl (Nat.le_of_ble_eq_true rfl) dX1_setOffset_1 h (fun r g_1 hk_ => ?_) (fun x g1 h => z_out C hQ h)
  clear h; obtain ⟨v_2, rfl, zb_, h⟩ := hk_
  show GW X E 4 g_1 4 [(0, .ref a0), (1, .int x1), (2, .int x2)] [.int v_2]
  intro H locs ls hR hS hl
  refine z_callS C hR hS hl (n := 1) (y := yX1_place) (bytes := cX1_place) (maxL := 1) (rt := none) (As := [.int v_2]) (rest := []) (lw_S q704 q705 q73 q706) hdS_X1_place (by decide) rfl rfl (Nat.le_of_ble_eq_true rfl) dX1_setOffset_4 h (fun r g_3 hk_ => ?_) (fun x g1 h => z_out C hQ h)
  clear h; obtain ⟨rfl, h⟩ := hk_
  show GW X E 4 g_3 7 [(0, .ref a0), (1, .int x1), (2, .int x2)] []
  intro H locs ls hR hS hl
  refine lv_iload_n C.x C.b dX1_setOffset_7 rfl (lv_at hl 2 rfl) ?_
  refine lv_sipush (v := (-1000)) C.x C.b dX1_setOffset_8 (by decide) ?_
  refine lv_sipush (v := 1000) C.x C.b dX1_setOffset_11 (by decide) ?_
  refine z_callS C hR hS hl (n := 3) (y := yX1_isIn) (bytes := cX1_isIn) (maxL := 3) (rt := (some .boolean)) (As := [.int x2, .int (-1000), .int 1000]) (rest := []) (lw_S q701 q702 q73 q703) hdS_X1_isIn (by decide) rfl rfl (Nat.le_of_ble_eq_true rfl) dX1_setOffset_14 h (fun r g_4 hk_ => ?_) (fun x g1 h => z_out C hQ h)
  clear h; obtain ⟨v_5, rfl, zb_, h⟩ := hk_
  show GW X E 4 g_4 17 [(0, .ref a0), (1, .int x1), (2, .int x2)] [.int v_5]
  intro H locs ls hR hS hl
  refine z_callS C hR hS hl (n := 1) (y := yX1_check) (bytes := cX1_check) (maxL := 1) (rt := none) (As := [.int v_5]) (rest := []) (lw_S q720 q721 q73 q722) hdS_X1_check (by decide) rfl rfl (Nat.le_of_ble_eq_true rfl) dX1_setOffset_17 h (fun r g_6 hk_ => ?_) (fun x g1 h => z_out C hQ h)
  clear h; obtain ⟨rfl, h⟩ := hk_
  show GW X E 4 g_6 20 [(0, .ref a0), (1, .int x1), (2, .int x2)] []
  intro H locs ls hR hS hl
  refine lv_aload_n C.x C.b dX1_setOffset_20 rfl (lv_at hl 0 rfl) ?_
  obtain ⟨fs_7, a_8, q1, q2, h⟩ := h
  refine z_get C hR q1 rfl (ci := 1) rfl in_X1 0 (by decide) q243 (fun _ h => h) q2 dX1_setOffset_21 ?_
  refine lv_iload_n C.x C.b dX1_setOffset_24 rfl (lv_at hl 1 rfl) ?_
  obtain ⟨n_9, f_10, q1, q2, h⟩ := h
  refine z_iald C hR q1 (by decide) q2 dX1_setOffset_25 ?_
  have h := h _ rfl
  generalize f_10 x1.toNatClampNeg = v_11 at h ⊢
  refine lv_istore_n (lv' := [(3, .int v_11), (0, .ref a0), (1, .int x1), (2, .int x2)]) C.x C.b dX1_setOffset_26 rfl hl (by decide) rfl (fun ls hl => ?_)
  refine lv_aload_n C.x C.b dX1_setOffset_27 rfl (lv_at hl 1 rfl) ?_
  obtain ⟨fs_12, a_13, q1, q2, h⟩ := h
  refine z_get C hR q1 rfl (ci := 1) rfl in_X1 0 (by decide) q243 (fun _ h => h) q2 dX1_setOffset_28 ?_
  refine lv_iload_n C.x C.b dX1_setOffset_31 rfl (lv_at hl 2 rfl) ?_
  refine lv_iload_n C.x C.b dX1_setOffset_32 rfl (lv_at hl 3 rfl) ?_
  obtain ⟨n_14, f_15, q1, q2, h⟩ := h
  refine z_iast C hR hS q1 (by decide) q2 dX1_setOffset_33 (fun H locs hR hS => ?_)
  have h := h _ rfl
  generalize zSi g_6 50 a_13 n_14 (upd f_15 x1.toNatClampNeg x2) = g_16 at h hR
  refine lv_iload_n C.x C.b dX1_setOffset_34 rfl (lv_at hl 0 rfl) ?_
  exact z_iret C hQ dX1_setOffset_35 h H locs ls hR hS hl
set_option maxHeartbeats 4000000 in
theorem mX1_setPatience {X : zX} {d : Nat} {g : zG} {K : Option Value → zG → Prop} {KX : String → zG → Prop} (hok : zOk X) (a0 : Nat) (x1 : Int32) (h : zCal X d yX1_isIn wX1_isIn [.int x1, .int 0, .int 1000] g (fun r g_1 => ∃ v_2 : Int32, r = some (.int v_2) ∧ zbo v_2 ∧ zCal X d yX1_check wX1_check [.int v_2] g_1 (fun r g_3 => r = none ∧ ∃ (fs_4 : List Value) (v_5 : Int32), zGo g_3 1 a0 = some fs_4 ∧ fs_4[1]? = some (.int v_5) ∧ ∃ (fs_6 : List Value), zGo g_3 1 a0 = some fs_6 ∧ 1 < fs_6.length ∧ ∀ g_7 : zG, g_7 = zSo g_3 1 a0 (fs_6.set 1 (.int x1)) → K (some (.int v_5)) g_7) KX) KX) : zCal X (d + 1) yX1_setPatience wX1_setPatience [.ref a0, .int x1] g K KX := by
  refine z_enter hok pn_X1 (Nat.le_of_ble_eq_true rfl) (fun E C hQ => ?_)
  have C : zC X (d + 1) E RX1 cX1_setPatience 3 (some .int) "setPatience" := C
  show GW X E 3 g 0 [(0, .ref a0), (1, .int x1)] []
  intro H locs ls hR hS hl
  refine lv_iload_n C.x C.b dX1_setPatience_0 rfl (lv_at hl 1 rfl) ?_
  refine lv_iconst (v := 0) C.x C.b dX1_setPatience_1 (by decide) ?_
  refine lv_sipush (v := 1000) C.x C.b dX1_setPatience_2 (by decide) ?_
  refine z_callS C hR hS hl (n := 3) (y := yX1_isIn) (bytes := cX1_isIn) (maxL := 3) (rt := (some .boolean)) (As := [.int x1, .int 0, .int 1000]) (rest := []) (lw_S q701 q702 q73 q703) hdS_X1_isIn (by decide) rfl rfl (Nat.le_of_ble_eq_true rfl) dX1_setPatience_5 h (fun r g_1 hk_ => ?_) (fun x g1 h => z_out C hQ h)
  clear h; obtain ⟨v_2, rfl, zb_, h⟩ := hk_
  show GW X E 3 g_1 8 [(0, .ref a0), (1, .int x1)] [.int v_2]
  intro H locs ls hR hS hl
  refine z_callS C hR hS hl (n := 1) (y := yX1_check) (bytes := cX1_check) (maxL := 1) (rt := none) (As := [.int v_2]) (rest := []) (lw_S q720 q721 q73 q722) hdS_X1_check (by decide) rfl rfl (Nat.le_of_ble_eq_true rfl) dX1_setPatience_8 h (fun r g_3 hk_ => ?_) (fun x g1 h => z_out C hQ h)
  clear h; obtain ⟨rfl, h⟩ := hk_
  show GW X E 3 g_3 11 [(0, .ref a0), (1, .int x1)] []
  intro H locs ls hR hS hl
  refine lv_aload_n C.x C.b dX1_setPatience_11 rfl (lv_at hl 0 rfl) ?_
  obtain ⟨fs_4, v_5, q1, q2, h⟩ := h
  refine z_get C hR q1 rfl (ci := 1) rfl in_X1 1 (by decide) q244 (fun _ h => h) q2 dX1_setPatience_12 ?_
  refine lv_istore_n (lv' := [(2, .int v_5), (0, .ref a0), (1, .int x1)]) C.x C.b dX1_setPatience_15 rfl hl (by decide) rfl (fun ls hl => ?_)
  refine lv_aload_n C.x C.b dX1_setPatience_16 rfl (lv_at hl 1 rfl) ?_
  refine lv_iload_n C.x C.b dX1_setPatience_17 rfl (lv_at hl 2 rfl) ?_
  obtain ⟨fs_6, q1, q2, h⟩ := h
  refine z_put C hR hS q1 rfl (ci := 1) rfl in_X1 tyX1 tyX1_ok nmX1 1 (by decide) q244 (fun _ h => h) rfl ⟨rfl, rfl⟩ q2 dX1_setPatience_18 (fun H locs hR hS => ?_)
  have h := h _ rfl
  generalize zSo g_3 1 a0 (fs_6.set 1 (.int x1)) = g_7 at h hR
  refine lv_iload_n C.x C.b dX1_setPatience_21 rfl (lv_at hl 0 rfl) ?_
  exact z_iret C hQ dX1_setPatience_22 h H locs ls hR hS hl
theorem hdV_X8_find : yX8_find.cls = RX8 ∧ yX8_find.cls ≠ "java/lang/invoke/MethodHandle" ∧ yX8_find.cls ≠ "java/lang/invoke/VarHandle" ∧ (parseMethodDescriptor yX8_find.desc).map (fun d => d.parameters.length) = some 0 := by decide +kernel
set_option maxHeartbeats 4000000 in
theorem bX1_find_10 {X : zX} {d : Nat} {E : zM} {K : Option Value → zG → Prop} {KX : String → zG → Prop} (C : zC X (d + 1) E RX1 cX1_find 3 none "find") (hQ : zQ X E K KX) (g : zG) (a1 : Nat) (h : zIs g 11 a1 ∧ zCal X d yJ22_hasNext wJ22_hasNext [.ref a1] g (fun r g_1 => ∃ v_2 : Int32, r = some (.int v_2) ∧ zbo v_2 ∧ (v_2 = 0 → K none g_1) ∧ (¬ v_2 = 0 → zIs g_1 11 a1 ∧ zCal X d yJ22_next wJ22_next [.ref a1] g_1 (fun r g_3 => ∃ r_4 : Option Nat, r = some (va_rf r_4) ∧ ∃ a_5 : Nat, r_4 = some a_5 ∧ zIs g_3 8 a_5 ∧ zIs g_3 8 a_5 ∧ zCal X d yX8_find wX8_find [.ref a_5] g_3 (fun r g_6 => r = none ∧ GW X E 3 g_6 10 [(1, .ref a1)] []) KX) KX)) KX) : GW X E 3 g 10 [(1, .ref a1)] [] := by
  intro H locs ls hR hS hl
  refine lv_aload_n C.x C.b dX1_find_10 rfl (lv_at hl 0 rfl) ?_
  refine z_callF C hR hS hl (n := 0) (C1 := RJ22) (T := TJ22) (N := 4) (ci := 11) (y := yJ22_hasNext) (bytes := cJ22_hasNext) (maxL := 1) (rt := (some .boolean)) (As := []) (rest := []) (x := ⟨"java/util/Iterator", "hasNext", "()Z"⟩) h.1 rfl (lw_F q353 q357 q359 q101 q361) ⟨C.ok.2.1 _ q355, C.ok.2.1 _ q354, C.ok.2.1 _ q360, C.ok.2.1 _ q358, C.ok.2.1 _ q356⟩ hdF_J22_hasNext (by decide) rfl rfl (Nat.le_of_ble_eq_true rfl) dX1_find_11 h.2 (fun r g_1 hk_ => ?_) (fun x g1 h => z_out C hQ h)
  clear h; obtain ⟨v_2, rfl, zb_, h⟩ := hk_
  show GW X E 3 g_1 16 [(1, .ref a1)] [.int v_2]
  intro H locs ls hR hS hl
  obtain ⟨h1, h2⟩ := h
  refine lv_if_eq (tgt := 36) C.x C.b dX1_find_16 (by decide) (fun c => ?_) (fun c => ?_)
  · have h := h1 c; clear h1 h2
    exact z_vret C hQ dX1_find_36 h H locs ls hR hS hl
  · have h := h2 c; clear h1 h2
    refine lv_aload_n C.x C.b dX1_find_19 rfl (lv_at hl 0 rfl) ?_
    refine z_callF C hR hS hl (n := 0) (C1 := RJ22) (T := TJ22) (N := 4) (ci := 11) (y := yJ22_next) (bytes := cJ22_next) (maxL := 3) (rt := (some (.object "java/lang/Object"))) (As := []) (rest := []) (x := ⟨"java/util/Iterator", "next", "()Ljava/lang/Object;"⟩) h.1 rfl (lw_F q363 q366 q368 q101 q370) ⟨C.ok.2.1 _ q365, C.ok.2.1 _ q364, C.ok.2.1 _ q369, C.ok.2.1 _ q367, C.ok.2.1 _ q356⟩ hdF_J22_next (by decide) rfl rfl (Nat.le_of_ble_eq_true rfl) dX1_find_20 h.2 (fun r g_3 hk_ => ?_) (fun x g1 h => z_out C hQ h)
    clear h; obtain ⟨r_4, rfl, h⟩ := hk_
    show GW X E 3 g_3 25 [(1, .ref a1)] [va_rf r_4]
    intro H locs ls hR hS hl
    obtain ⟨a_5, e_, h⟩ := h; subst e_
    have hl : lv_has ls 3 [(1, .ref a1)] := by assumption
    show zV X E H locs (F0 (zm E) 25 ls [.ref a_5])
    refine z_castS C hR (ci := 8) (C1 := RX8) (T := TX8) (N := 8) h.1 rfl q375 dX1_find_25 ?_
    have h := h.2
    refine lv_astore_n (lv' := [(2, .ref a_5), (1, .ref a1)]) C.x C.b dX1_find_28 rfl hl (by decide) rfl (fun ls hl => ?_)
    refine lv_aload_n C.x C.b dX1_find_29 rfl (lv_at hl 0 rfl) ?_
    refine z_callV C hR hS hl (n := 0) (C1 := RX8) (T := TX8) (N := 8) (ci := 8) (y := yX8_find) (bytes := cX8_find) (maxL := 2) (rt := none) (As := []) (rest := []) h.1 rfl (lw_V q1117 q1118 q1119 q107 q1120) hdV_X8_find (by decide) rfl rfl (Nat.le_of_ble_eq_true rfl) dX1_find_30 h.2 (fun r g_6 hk_ => ?_) (fun x g1 h => z_out C hQ h)
    clear h; obtain ⟨rfl, h⟩ := hk_
    show GW X E 3 g_6 33 [(2, .ref a_5), (1, .ref a1)] []
    intro H locs ls hR hS hl
    refine lv_goto (tgt := 10) C.x C.b dX1_find_33 (by decide) ?_
    exact h H locs ls hR hS (lv_sub hl [1] rfl)
set_option maxHeartbeats 4000000 in
theorem mX1_find {X : zX} {d : Nat} {g : zG} {K : Option Value → zG → Prop} {KX : String → zG → Prop} (hok : zOk X) (a0 : Nat) (h : ∀ E : zM, zC X (d + 1) E RX1 cX1_find 3 none "find" → zQ X E K KX → ∃ (fs_1 : List Value) (a_2 : Nat), zGo g 1 a0 = some fs_1 ∧ fs_1[9]? = some (.ref a_2) ∧ zIs g 0 a_2 ∧ zCal X d yJ2_iterator wJ2_iterator [.ref a_2] g (fun r g_3 => ∃ a_5 : Nat, r = some (.ref a_5) ∧ GW X E 3 g_3 10 [(1, .ref a_5)] []) KX) : zCal X (d + 1) yX1_find wX1_find [.ref a0] g K KX := by
  refine z_enter hok pn_X1 (Nat.le_of_ble_eq_true rfl) (fun E C hQ => ?_)
  have C : zC X (d + 1) E RX1 cX1_find 3 none "find" := C
  have h := h E C hQ
  show GW X E 3 g 0 [(0, .ref a0)] []
  intro H locs ls hR hS hl
  refine lv_aload_n C.x C.b dX1_find_0 rfl (lv_at hl 0 rfl) ?_
  obtain ⟨fs_1, a_2, q1, q2, h⟩ := h
  refine z_get C hR q1 rfl (ci := 1) rfl in_X1 9 (by decide) q257 (fun _ h => h) q2 dX1_find_1 ?_
  refine z_callF C hR hS hl (n := 0) (C1 := RJ2) (T := TJ2) (N := 3) (ci := 0) (y := yJ2_iterator) (bytes := cJ2_iterator) (maxL := 1) (rt := (some (.object "java/util/Iterator"))) (As := []) (rest := []) (x := ⟨"java/util/List", "iterator", "()Ljava/util/Iterator;"⟩) h.1 rfl (lw_F q325 q328 q330 q76 q332) ⟨C.ok.2.1 _ q327, C.ok.2.1 _ q326, C.ok.2.1 _ q331, C.ok.2.1 _ q329, C.ok.2.1 _ q174⟩ hdF_J2_iterator (by decide) rfl rfl (Nat.le_of_ble_eq_true rfl) dX1_find_4 h.2 (fun r g_3 hk_ => ?_) (fun x g1 h => z_out C hQ h)
  clear h; obtain ⟨a_5, rfl, h⟩ := hk_
  show GW X E 3 g_3 9 [(0, .ref a0)] [.ref a_5]
  intro H locs ls hR hS hl
  refine lv_astore_n (lv' := [(1, .ref a_5), (0, .ref a0)]) C.x C.b dX1_find_9 rfl hl (by decide) rfl (fun ls hl => ?_)
  exact h H locs ls hR hS (lv_sub hl [0] rfl)
theorem hdF_J2_add_3 : (yJ2_add_3.name = (⟨"java/util/List", "add", "(ILjava/lang/Object;)V"⟩ : MethodName).name ∧ yJ2_add_3.desc = (⟨"java/util/List", "add", "(ILjava/lang/Object;)V"⟩ : MethodName).desc) ∧ (⟨"java/util/List", "add", "(ILjava/lang/Object;)V"⟩ : MethodName).cls ≠ "java/lang/invoke/MethodHandle" ∧ (⟨"java/util/List", "add", "(ILjava/lang/Object;)V"⟩ : MethodName).cls ≠ "java/lang/invoke/VarHandle" ∧ (parseMethodDescriptor (⟨"java/util/List", "add", "(ILjava/lang/Object;)V"⟩ : MethodName).desc).map (fun d => d.parameters.length) = some 2 := by decide +kernel
theorem hdV_X4_isAhead : yX4_isAhead.cls = RX4 ∧ yX4_isAhead.cls ≠ "java/lang/invoke/MethodHandle" ∧ yX4_isAhead.cls ≠ "java/lang/invoke/VarHandle" ∧ (parseMethodDescriptor yX4_isAhead.desc).map (fun d => d.parameters.length) = some 1 := by decide +kernel
set_option maxHeartbeats 4000000 in
theorem bX1_insert_7 {X : zX} {d : Nat} {E : zM} {K : Option Value → zG → Prop} {KX : String → zG → Prop} (C : zC X (d + 1) E RX1 cX1_insert 3 none "insert") (hQ : zQ X E K KX) (g : zG) (a0 : Nat) (a1 : Nat) (x2 : Int32) (h : (x2 ≤ 0 → zIs g 0 a0 ∧ zCal X d yJ2_add_3 wJ2_add_3 [.ref a0, .int x2, .ref a1] g (fun r g_1 => r = none ∧ K none g_1) KX) ∧ (¬ x2 ≤ 0 → zIs g 0 a0 ∧ zCal X d yJ2_get wJ2_get [.ref a0, .int (x2 - 1)] g (fun r g_2 => ∃ r_3 : Option Nat, r = some (va_rf r_3) ∧ ∃ a_4 : Nat, r_3 = some a_4 ∧ zIs g_2 4 a_4 ∧ zIs g_2 4 a1 ∧ zCal X d yX4_isAhead wX4_isAhead [.ref a1, .ref a_4] g_2 (fun r g_5 => ∃ v_6 : Int32, r = some (.int v_6) ∧ zbo v_6 ∧ (v_6 = 0 → zIs g_5 0 a0 ∧ zCal X d yJ2_add_3 wJ2_add_3 [.ref a0, .int x2, .ref a1] g_5 (fun r g_7 => r = none ∧ K none g_7) KX) ∧ (¬ v_6 = 0 → GW X E 3 g_5 7 [(0, .ref a0), (1, .ref a1), (2, .int (x2 + (-1)))] [])) KX) KX)) : GW X E 3 g 7 [(0, .ref a0), (1, .ref a1), (2, .int x2)] [] := by
  intro H locs ls hR hS hl
  refine lv_iload_n C.x C.b dX1_insert_7 rfl (lv_at hl 2 rfl) ?_
  obtain ⟨h1, h2⟩ := h
  refine lv_if_le (tgt := 36) C.x C.b dX1_insert_8 (by decide) (fun c => ?_) (fun c => ?_)
  · have h := h1 c; clear h1 h2
    refine lv_aload_n C.x C.b dX1_insert_36 rfl (lv_at hl 0 rfl) ?_
    refine lv_iload_n C.x C.b dX1_insert_37 rfl (lv_at hl 2 rfl) ?_
    refine lv_aload_n C.x C.b dX1_insert_38 rfl (lv_at hl 1 rfl) ?_
    refine z_callF C hR hS hl (n := 2) (C1 := RJ2) (T := TJ2) (N := 3) (ci := 0) (y := yJ2_add_3) (bytes := cJ2_add_3) (maxL := 5) (rt := none) (As := [.int x2, .ref a1]) (rest := []) (x := ⟨"java/util/List", "add", "(ILjava/lang/Object;)V"⟩) h.1 rfl (lw_F q830 q833 q835 q76 q837) ⟨C.ok.2.1 _ q832, C.ok.2.1 _ q831, C.ok.2.1 _ q836, C.ok.2.1 _ q834, C.ok.2.1 _ q174⟩ hdF_J2_add_3 (by decide) rfl rfl (Nat.le_of_ble_eq_true rfl) dX1_insert_39 h.2 (fun r g_1 hk_ => ?_) (fun x g1 h => z_out C hQ h)
    clear h; obtain ⟨rfl, h⟩ := hk_
    show GW X E 3 g_1 44 [(0, .ref a0), (1, .ref a1), (2, .int x2)] []
    intro H locs ls hR hS hl
    exact z_vret C hQ dX1_insert_44 h H locs ls hR hS hl
  · have h := h2 c; clear h1 h2
    refine lv_aload_n C.x C.b dX1_insert_11 rfl (lv_at hl 1 rfl) ?_
    refine lv_aload_n C.x C.b dX1_insert_12 rfl (lv_at hl 0 rfl) ?_
    refine lv_iload_n C.x C.b dX1_insert_13 rfl (lv_at hl 2 rfl) ?_
    refine lv_iconst (v := 1) C.x C.b dX1_insert_14 (by decide) ?_
    refine lv_isub C.x C.b dX1_insert_15 ?_
    refine z_callF C hR hS hl (n := 1) (C1 := RJ2) (T := TJ2) (N := 3) (ci := 0) (y := yJ2_get) (bytes := cJ2_get) (maxL := 2) (rt := (some (.object "java/lang/Object"))) (As := [.int (x2 - 1)]) (rest := [.ref a1]) (x := ⟨"java/util/List", "get", "(I)Ljava/lang/Object;"⟩) h.1 rfl (lw_F q378 q381 q383 q76 q385) ⟨C.ok.2.1 _ q380, C.ok.2.1 _ q379, C.ok.2.1 _ q384, C.ok.2.1 _ q382, C.ok.2.1 _ q174⟩ hdF_J2_get (by decide) rfl rfl (Nat.le_of_ble_eq_true rfl) dX1_insert_16 h.2 (fun r g_2 hk_ => ?_) (fun x g1 h => z_out C hQ h)
    clear h; obtain ⟨r_3, rfl, h⟩ := hk_
    show GW X E 3 g_2 21 [(0, .ref a0), (1, .ref a1), (2, .int x2)] [va_rf r_3, .ref a1]
    intro H locs ls hR hS hl
    obtain ⟨a_4, e_, h⟩ := h; subst e_
    have hl : lv_has ls 3 [(0, .ref a0), (1, .ref a1), (2, .int x2)] := by assumption
    show zV X E H locs (F0 (zm E) 21 ls [.ref a_4, .ref a1])
    refine z_castS C hR (ci := 4) (C1 := RX4) (T := TX4) (N := 7) h.1 rfl q455 dX1_insert_21 ?_
    have h := h.2
    refine z_callV C hR hS hl (n := 1) (C1 := RX4) (T := TX4) (N := 7) (ci := 4) (y := yX4_isAhead) (bytes := cX4_isAhead) (maxL := 2) (rt := (some .boolean)) (As := [.ref a_4]) (rest := []) h.1 rfl (lw_V q825 q826 q827 q91 q828) hdV_X4_isAhead (by decide) rfl rfl (Nat.le_of_ble_eq_true rfl) dX1_insert_24 h.2 (fun r g_5 hk_ => ?_) (fun x g1 h => z_out C hQ h)
    clear h; obtain ⟨v_6, rfl, zb_, h⟩ := hk_
    show GW X E 3 g_5 27 [(0, .ref a0), (1, .ref a1), (2, .int x2)] [.int v_6]
    intro H locs ls hR hS hl
    obtain ⟨h1, h2⟩ := h
    refine lv_if_eq (tgt := 36) C.x C.b dX1_insert_27 (by decide) (fun c => ?_) (fun c => ?_)
    · have h := h1 c; clear h1 h2
      refine lv_aload_n C.x C.b dX1_insert_36 rfl (lv_at hl 0 rfl) ?_
      refine lv_iload_n C.x C.b dX1_insert_37 rfl (lv_at hl 2 rfl) ?_
      refine lv_aload_n C.x C.b dX1_insert_38 rfl (lv_at hl 1 rfl) ?_
      refine z_callF C hR hS hl (n := 2) (C1 := RJ2) (T := TJ2) (N := 3) (ci := 0) (y := yJ2_add_3) (bytes := cJ2_add_3) (maxL := 5) (rt := none) (As := [.int x2, .ref a1]) (rest := []) (x := ⟨"java/util/List", "add", "(ILjava/lang/Object;)V"⟩) h.1 rfl (lw_F q830 q833 q835 q76 q837) ⟨C.ok.2.1 _ q832, C.ok.2.1 _ q831, C.ok.2.1 _ q836, C.ok.2.1 _ q834, C.ok.2.1 _ q174⟩ hdF_J2_add_3 (by decide) rfl rfl (Nat.le_of_ble_eq_true rfl) dX1_insert_39 h.2 (fun r g_7 hk_ => ?_) (fun x g1 h => z_out C hQ h)
      clear h; obtain ⟨rfl, h⟩ := hk_
      show GW X E 3 g_7 44 [(0, .ref a0), (1, .ref a1), (2, .int x2)] []
      intro H locs ls hR hS hl
      exact z_vret C hQ dX1_insert_44 h H locs ls hR hS hl
    · have h := h2 c; clear h1 h2
      refine lv_iinc (v := x2 + (-1)) (lv' := [(2, .int (x2 + (-1))), (0, .ref a0), (1, .ref a1)]) C.x C.b dX1_insert_30 hl (k := 2) rfl rfl (by decide) rfl (fun ls hl => ?_)
      refine lv_goto (tgt := 7) C.x C.b dX1_insert_33 (by decide) ?_
      exact h H locs ls hR hS (lv_sub hl [1, 2, 0] rfl)
set_option maxHeartbeats 4000000 in
theorem mX1_insert {X : zX} {d : Nat} {g : zG} {K : Option Value → zG → Prop} {KX : String → zG → Prop} (hok : zOk X) (a0 : Nat) (a1 : Nat) (h : ∀ E : zM, zC X (d + 1) E RX1 cX1_insert 3 none "insert" → zQ X E K KX → zIs g 0 a0 ∧ zCal X d yJ2_size wJ2_size [.ref a0] g (fun r g_1 => ∃ v_2 : Int32, r = some (.int v_2) ∧ GW X E 3 g_1 7 [(0, .ref a0), (1, .ref a1), (2, .int v_2)] []) KX) : zCal X (d + 1) yX1_insert wX1_insert [.ref a0, .ref a1] g K KX := by
  refine z_enter hok pn_X1 (Nat.le_of_ble_eq_true rfl) (fun E C hQ => ?_)
  have C : zC X (d + 1) E RX1 cX1_insert 3 none "insert" := C
  have h := h E C hQ
  show GW X E 3 g 0 [(0, .ref a0), (1, .ref a1)] []
  intro H locs ls hR hS hl
  refine lv_aload_n C.x C.b dX1_insert_0 rfl (lv_at hl 0 rfl) ?_
  refine z_callF C hR hS hl (n := 0) (C1 := RJ2) (T := TJ2) (N := 3) (ci := 0) (y := yJ2_size) (bytes := cJ2_size) (maxL := 1) (rt := (some .int)) (As := []) (rest := []) (x := ⟨"java/util/List", "size", "()I"⟩) h.1 rfl (lw_F q291 q294 q296 q76 q298) ⟨C.ok.2.1 _ q293, C.ok.2.1 _ q292, C.ok.2.1 _ q297, C.ok.2.1 _ q295, C.ok.2.1 _ q174⟩ hdF_J2_size (by decide) rfl rfl (Nat.le_of_ble_eq_true rfl) dX1_insert_1 h.2 (fun r g_1 hk_ => ?_) (fun x g1 h => z_out C hQ h)
  clear h; obtain ⟨v_2, rfl, h⟩ := hk_
  show GW X E 3 g_1 6 [(0, .ref a0), (1, .ref a1)] [.int v_2]
  intro H locs ls hR hS hl
  refine lv_istore_n (lv' := [(2, .int v_2), (0, .ref a0), (1, .ref a1)]) C.x C.b dX1_insert_6 rfl hl (by decide) rfl (fun ls hl => ?_)
  exact h H locs ls hR hS (lv_sub hl [1, 2, 0] rfl)
theorem hdS_X1_insert : yX1_insert.cls ≠ "java/lang/invoke/MethodHandle" ∧ yX1_insert.cls ≠ "java/lang/invoke/VarHandle" ∧ (parseMethodDescriptor yX1_insert.desc).map (fun d => d.parameters.length) = some 2 := by decide +kernel
theorem hdV_X1_find : yX1_find.cls = RX1 ∧ yX1_find.cls ≠ "java/lang/invoke/MethodHandle" ∧ yX1_find.cls ≠ "java/lang/invoke/VarHandle" ∧ (parseMethodDescriptor yX1_find.desc).map (fun d => d.parameters.length) = some 0 := by decide +kernel
set_option maxHeartbeats 4000000 in
theorem mX1_come {X : zX} {d : Nat} {g : zG} {K : Option Value → zG → Prop} {KX : String → zG → Prop} (hok : zOk X) (a0 : Nat) (a1 : Nat) (h : ∃ (fs_1 : List Value) (a_2 : Nat), zGo g 1 a0 = some fs_1 ∧ fs_1[2]? = some (.ref a_2) ∧ zIs g 0 a_2 ∧ zCal X d yJ2_add wJ2_add [.ref a_2, .ref a1] g (fun r g_3 => ∃ v_4 : Int32, r = some (.int v_4) ∧ zbo v_4 ∧ ∃ (fs_5 : List Value) (a_6 : Nat), zGo g_3 1 a0 = some fs_5 ∧ fs_5[3]? = some (.ref a_6) ∧ zCal X d yX1_insert wX1_insert [.ref a_6, .ref a1] g_3 (fun r g_7 => r = none ∧ ∃ (fs_8 : List Value) (v_9 : Int32), zGo g_7 1 a0 = some fs_8 ∧ fs_8[5]? = some (.int v_9) ∧ ∃ (fs_10 : List Value) (v_11 : Int32), zGo g_7 4 a1 = some fs_10 ∧ fs_10[1]? = some (.int v_11) ∧ zCal X d yJ4_max wJ4_max [.int v_9, .int v_11] g_7 (fun r g_12 => ∃ v_13 : Int32, r = some (.int v_13) ∧ ∃ (fs_14 : List Value), zGo g_12 1 a0 = some fs_14 ∧ 5 < fs_14.length ∧ ∀ g_15 : zG, g_15 = zSo g_12 1 a0 (fs_14.set 5 (.int v_13)) → ∃ (fs_16 : List Value) (a_17 : Nat), zGo g_15 1 a0 = some fs_16 ∧ fs_16[4]? = some (.ref a_17) ∧ ∃ (fs_18 : List Value) (v_19 : Int32), zGo g_15 4 a1 = some fs_18 ∧ fs_18[3]? = some (.int v_19) ∧ zIs g_15 0 a_17 ∧ zCal X d yJ2_get wJ2_get [.ref a_17, .int v_19] g_15 (fun r g_20 => ∃ r_21 : Option Nat, r = some (va_rf r_21) ∧ ∃ a_22 : Nat, r_21 = some a_22 ∧ zIs g_20 2 a_22 ∧ ∃ (fs_23 : List Value) (v_24 : Int32), zGo g_20 4 a1 = some fs_23 ∧ fs_23[1]? = some (.int v_24) ∧ zGz g_20 + 1 + 2 ≤ zz X ∧ ∀ a_25 : Nat, zFr g_20 a_25 → ∀ g_26 : zG, g_26 = zSz (zSo g_20 5 a_25 [.int 0, .int 0]) (zGz g_20 + 1 + 2) → ∃ (fs_27 : List Value) (v_28 : Int32), zGo g_26 4 a1 = some fs_27 ∧ fs_27[5]? = some (.int v_28) ∧ zCal X d yX5_init wX5_init [.ref a_25, .int 1, .int v_28] g_26 (fun r g_29 => r = none ∧ zIs g_29 2 a_22 ∧ zCal X d yX2_add wX2_add [.ref a_22, .int v_24, .ref a_25] g_29 (fun r g_30 => r = none ∧ zIs g_30 1 a0 ∧ zCal X d yX1_find wX1_find [.ref a0] g_30 (fun r g_31 => r = none ∧ K none g_31) KX) KX) KX) KX) KX) KX) KX) : zCal X (d + 1) yX1_come wX1_come [.ref a0, .ref a1] g K KX := by
  refine z_enter hok pn_X1 (Nat.le_of_ble_eq_true rfl) (fun E C hQ => ?_)
  have C : zC X (d + 1) E RX1 cX1_come 2 none "come" := C
  show GW X E 2 g 0 [(0, .ref a0), (1, .ref a1)] []
  intro H locs ls hR hS hl
  refine lv_aload_n C.x C.b dX1_come_0 rfl (lv_at hl 0 rfl) ?_
  obtain ⟨fs_1, a_2, q1, q2, h⟩ := h
  refine z_get C hR q1 rfl (ci := 1) rfl in_X1 2 (by decide) q245 (fun _ h => h) q2 dX1_come_1 ?_
  refine lv_aload_n C.x C.b dX1_come_4 rfl (lv_at hl 1 rfl) ?_
  refine z_callF C hR hS hl (n := 1) (C1 := RJ2) (T := TJ2) (N := 3) (ci := 0) (y := yJ2_add) (bytes := cJ2_add) (maxL := 2) (rt := (some .boolean)) (As := [.ref a1]) (rest := []) (x := ⟨"java/util/List", "add", "(Ljava/lang/Object;)Z"⟩) h.1 rfl (lw_F q171 q175 q177 q76 q179) ⟨C.ok.2.1 _ q173, C.ok.2.1 _ q172, C.ok.2.1 _ q178, C.ok.2.1 _ q176, C.ok.2.1 _ q174⟩ hdF_J2_add (by decide) rfl rfl (Nat.le_of_ble_eq_true rfl) dX1_come_5 h.2 (fun r g_3 hk_ => ?_) (fun x g1 h => z_out C hQ h)
  clear h; obtain ⟨v_4, rfl, zb_, h⟩ := hk_
  show GW X E 2 g_3 10 [(0, .ref a0), (1, .ref a1)] [.int v_4]
  intro H locs ls hR hS hl
  refine lv_pop C.x C.b dX1_come_10 rfl ?_
  refine lv_aload_n C.x C.b dX1_come_11 rfl (lv_at hl 0 rfl) ?_
  obtain ⟨fs_5, a_6, q1, q2, h⟩ := h
  refine z_get C hR q1 rfl (ci := 1) rfl in_X1 3 (by decide) q248 (fun _ h => h) q2 dX1_come_12 ?_
  refine lv_aload_n C.x C.b dX1_come_15 rfl (lv_at hl 1 rfl) ?_
  refine z_callS C hR hS hl (n := 2) (y := yX1_insert) (bytes := cX1_insert) (maxL := 3) (rt := none) (As := [.ref a_6, .ref a1]) (rest := []) (lw_S q822 q823 q73 q824) hdS_X1_insert (by decide) rfl rfl (Nat.le_of_ble_eq_true rfl) dX1_come_16 h (fun r g_7 hk_ => ?_) (fun x g1 h => z_out C hQ h)
  clear h; obtain ⟨rfl, h⟩ := hk_
  show GW X E 2 g_7 19 [(0, .ref a0), (1, .ref a1)] []
  intro H locs ls hR hS hl
  refine lv_aload_n C.x C.b dX1_come_19 rfl (lv_at hl 0 rfl) ?_
  refine lv_aload_n C.x C.b dX1_come_20 rfl (lv_at hl 0 rfl) ?_
  obtain ⟨fs_8, v_9, q1, q2, h⟩ := h
  refine z_get C hR q1 rfl (ci := 1) rfl in_X1 5 (by decide) q252 (fun _ h => h) q2 dX1_come_21 ?_
  refine lv_aload_n C.x C.b dX1_come_24 rfl (lv_at hl 1 rfl) ?_
  obtain ⟨fs_10, v_11, q1, q2, h⟩ := h
  refine z_getN C hR q1 rfl (ci := 4) rfl in_X4 1 (by decide) q788 (fun _ h => h) q2 dX1_come_25 ?_
  refine z_callS C hR hS hl (n := 2) (y := yJ4_max) (bytes := cJ4_max) (maxL := 2) (rt := (some .int)) (As := [.int v_9, .int v_11]) (rest := [.ref a0]) (lw_S q1072 q196 q79 q197) hdS_J4_max (by decide) rfl rfl (Nat.le_of_ble_eq_true rfl) dX1_come_28 h (fun r g_12 hk_ => ?_) (fun x g1 h => z_out C hQ h)
  clear h; obtain ⟨v_13, rfl, h⟩ := hk_
  show GW X E 2 g_12 31 [(0, .ref a0), (1, .ref a1)] [.int v_13, .ref a0]
  intro H locs ls hR hS hl
  obtain ⟨fs_14, q1, q2, h⟩ := h
  refine z_put C hR hS q1 rfl (ci := 1) rfl in_X1 tyX1 tyX1_ok nmX1 5 (by decide) q252 (fun _ h => h) rfl ⟨rfl, rfl⟩ q2 dX1_come_31 (fun H locs hR hS => ?_)
  have h := h _ rfl
  generalize zSo g_12 1 a0 (fs_14.set 5 (.int v_13)) = g_15 at h hR
  refine lv_aload_n C.x C.b dX1_come_34 rfl (lv_at hl 0 rfl) ?_
  obtain ⟨fs_16, a_17, q1, q2, h⟩ := h
  refine z_get C hR q1 rfl (ci := 1) rfl in_X1 4 (by decide) q250 (fun _ h => h) q2 dX1_come_35 ?_
  refine lv_aload_n C.x C.b dX1_come_38 rfl (lv_at hl 1 rfl) ?_
  obtain ⟨fs_18, v_19, q1, q2, h⟩ := h
  refine z_getN C hR q1 rfl (ci := 4) rfl in_X4 3 (by decide) q793 (fun _ h => h) q2 dX1_come_39 ?_
  refine z_callF C hR hS hl (n := 1) (C1 := RJ2) (T := TJ2) (N := 3) (ci := 0) (y := yJ2_get) (bytes := cJ2_get) (maxL := 2) (rt := (some (.object "java/lang/Object"))) (As := [.int v_19]) (rest := []) (x := ⟨"java/util/List", "get", "(I)Ljava/lang/Object;"⟩) h.1 rfl (lw_F q378 q381 q383 q76 q385) ⟨C.ok.2.1 _ q380, C.ok.2.1 _ q379, C.ok.2.1 _ q384, C.ok.2.1 _ q382, C.ok.2.1 _ q174⟩ hdF_J2_get (by decide) rfl rfl (Nat.le_of_ble_eq_true rfl) dX1_come_42 h.2 (fun r g_20 hk_ => ?_) (fun x g1 h => z_out C hQ h)
  clear h; obtain ⟨r_21, rfl, h⟩ := hk_
  show GW X E 2 g_20 47 [(0, .ref a0), (1, .ref a1)] [va_rf r_21]
  intro H locs ls hR hS hl
  obtain ⟨a_22, e_, h⟩ := h; subst e_
  have hl : lv_has ls 2 [(0, .ref a0), (1, .ref a1)] := by assumption
  show zV X E H locs (F0 (zm E) 47 ls [.ref a_22])
  refine z_castS C hR (ci := 2) (C1 := RX2) (T := TX2) (N := 5) h.1 rfl q148 dX1_come_47 ?_
  have h := h.2
  refine lv_aload_n C.x C.b dX1_come_50 rfl (lv_at hl 1 rfl) ?_
  obtain ⟨fs_23, v_24, q1, q2, h⟩ := h
  refine z_getN C hR q1 rfl (ci := 4) rfl in_X4 1 (by decide) q788 (fun _ h => h) q2 dX1_come_51 ?_
  obtain ⟨q1, h⟩ := h
  refine z_new C hR hS 5 rfl (ci := 5) rfl in_X5 tyX5 tyX5_ok q1073 q1074 q100 (fs := [.int 0, .int 0]) zdf_X5 q1 dX1_come_54 (fun a_25 hf H hR hS => ?_)
  have h := h a_25 hf _ rfl
  generalize zSz (zSo g_20 5 a_25 [.int 0, .int 0]) (zGz g_20 + 1 + 2) = g_26 at h hR
  refine lv_dup C.x C.b dX1_come_57 rfl ?_
  refine lv_iconst (v := 1) C.x C.b dX1_come_58 (by decide) ?_
  refine lv_aload_n C.x C.b dX1_come_59 rfl (lv_at hl 1 rfl) ?_
  obtain ⟨fs_27, v_28, q1, q2, h⟩ := h
  refine z_getN C hR q1 rfl (ci := 4) rfl in_X4 5 (by decide) q800 (fun _ h => h) q2 dX1_come_60 ?_
  refine z_callI C hR hS hl (n := 2) (y := yX5_init) (bytes := cX5_init) (maxL := 3) (As := [.int 1, .int v_28]) (rest := [.ref a_25, .int v_24, .ref a_22]) (lw_meth q1077) q100 q1075 q1076 rfl hdS_X5_init (by decide) rfl rfl (Nat.le_of_ble_eq_true rfl) dX1_come_63 h (fun r g_29 hk_ => ?_) (fun x g1 h => z_out C hQ h)
  clear h; obtain ⟨rfl, h⟩ := hk_
  show GW X E 2 g_29 66 [(0, .ref a0), (1, .ref a1)] [.ref a_25, .int v_24, .ref a_22]
  intro H locs ls hR hS hl
  refine z_callV C hR hS hl (n := 2) (C1 := RX2) (T := TX2) (N := 5) (ci := 2) (y := yX2_add) (bytes := cX2_add) (maxL := 4) (rt := none) (As := [.int v_24, .ref a_25]) (rest := []) h.1 rfl (lw_V q1088 q1089 q1090 q77 q1091) hdV_X2_add (by decide) rfl rfl (Nat.le_of_ble_eq_true rfl) dX1_come_66 h.2 (fun r g_30 hk_ => ?_) (fun x g1 h => z_out C hQ h)
  clear h; obtain ⟨rfl, h⟩ := hk_
  show GW X E 2 g_30 69 [(0, .ref a0), (1, .ref a1)] []
  intro H locs ls hR hS hl
  refine lv_aload_n C.x C.b dX1_come_69 rfl (lv_at hl 0 rfl) ?_
  refine z_callV C hR hS hl (n := 0) (C1 := RX1) (T := TX1) (N := 12) (ci := 1) (y := yX1_find) (bytes := cX1_find) (maxL := 3) (rt := none) (As := []) (rest := []) h.1 rfl (lw_V q1113 q1115 qs17 q73 q1116) hdV_X1_find (by decide) rfl rfl (Nat.le_of_ble_eq_true rfl) dX1_come_70 h.2 (fun r g_31 hk_ => ?_) (fun x g1 h => z_out C hQ h)
  clear h; obtain ⟨rfl, h⟩ := hk_
  show GW X E 2 g_31 73 [(0, .ref a0), (1, .ref a1)] []
  intro H locs ls hR hS hl
  exact z_vret C hQ dX1_come_73 h H locs ls hR hS hl
theorem hdS_X1_allow : yX1_allow.cls ≠ "java/lang/invoke/MethodHandle" ∧ yX1_allow.cls ≠ "java/lang/invoke/VarHandle" ∧ (parseMethodDescriptor yX1_allow.desc).map (fun d => d.parameters.length) = some 1 := by decide +kernel
theorem hdS_X4_init : yX4_init.cls ≠ "java/lang/invoke/MethodHandle" ∧ yX4_init.cls ≠ "java/lang/invoke/VarHandle" ∧ (parseMethodDescriptor yX4_init.desc).map (fun d => d.parameters.length) = some 7 := by decide +kernel
set_option maxHeartbeats 4000000 in
theorem mX1_comer {X : zX} {d : Nat} {g : zG} {K : Option Value → zG → Prop} {KX : String → zG → Prop} (hok : zOk X) (a0 : Nat) (x1 : Int32) (x2 : Int32) (x3 : Int32) (x4 : Int32) (x5 : Int32) (h : zCal X d yX1_isNode wX1_isNode [.int x1] g (fun r g_1 => ∃ v_2 : Int32, r = some (.int v_2) ∧ zbo v_2 ∧ zCal X d yX1_place wX1_place [.int v_2] g_1 (fun r g_3 => r = none ∧ zCal X d yX1_isIn wX1_isIn [.int x2, .int 1000, .int 10000] g_3 (fun r g_4 => ∃ v_5 : Int32, r = some (.int v_5) ∧ zbo v_5 ∧ (v_5 = 0 → zCal X d yX1_check wX1_check [.int 0] g_4 (fun r g_6 => r = none ∧ False) KX) ∧ (¬ v_5 = 0 → zCal X d yX1_isIn wX1_isIn [.int x3, .int 0, .int 7] g_4 (fun r g_7 => ∃ v_8 : Int32, r = some (.int v_8) ∧ zbo v_8 ∧ (v_8 = 0 → zCal X d yX1_check wX1_check [.int 0] g_7 (fun r g_9 => r = none ∧ False) KX) ∧ (¬ v_8 = 0 → zCal X d yX1_isIn wX1_isIn [.int x4, .int (-1), .int 9] g_7 (fun r g_10 => ∃ v_11 : Int32, r = some (.int v_11) ∧ zbo v_11 ∧ (v_11 = 0 → zCal X d yX1_check wX1_check [.int 0] g_10 (fun r g_12 => r = none ∧ False) KX) ∧ (¬ v_11 = 0 → zCal X d yX1_isIn wX1_isIn [.int x5, .int (-1000), .int 1000] g_10 (fun r g_13 => ∃ v_14 : Int32, r = some (.int v_14) ∧ zbo v_14 ∧ (v_14 = 0 → zCal X d yX1_check wX1_check [.int 0] g_13 (fun r g_15 => r = none ∧ False) KX) ∧ (¬ v_14 = 0 → zCal X d yX1_check wX1_check [.int 1] g_13 (fun r g_16 => r = none ∧ ∃ (fs_17 : List Value) (a_18 : Nat), zGo g_16 1 a0 = some fs_17 ∧ fs_17[0]? = some (.ref a_18) ∧ ∃ (n_19 : Nat) (f_20 : Nat → Int32), zGi g_16 50 a_18 = some (n_19, f_20) ∧ vp_in x1 n_19 ∧ ∀ v_21 : Int32, v_21 = f_20 x1.toNatClampNeg → ∃ (fs_22 : List Value) (v_23 : Int32), zGo g_16 1 a0 = some fs_22 ∧ fs_22[6]? = some (.int v_23) ∧ (v_23 = 0 → zCal X d yX1_allow wX1_allow [.int 0] g_16 (fun r g_24 => r = none ∧ False) KX) ∧ (¬ v_23 = 0 → ∃ (fs_25 : List Value) (a_26 : Nat), zGo g_16 1 a0 = some fs_25 ∧ fs_25[2]? = some (.ref a_26) ∧ zIs g_16 0 a_26 ∧ zCal X d yJ2_size wJ2_size [.ref a_26] g_16 (fun r g_27 => ∃ v_28 : Int32, r = some (.int v_28) ∧ (80 ≤ v_28 → zCal X d yX1_allow wX1_allow [.int 0] g_27 (fun r g_29 => r = none ∧ False) KX) ∧ (¬ 80 ≤ v_28 → ∃ (fs_30 : List Value) (v_31 : Int32), zGo g_27 1 a0 = some fs_30 ∧ fs_30[5]? = some (.int v_31) ∧ ∃ (fs_32 : List Value) (v_33 : Int32), zGo g_27 1 a0 = some fs_32 ∧ fs_32[1]? = some (.int v_33) ∧ ((x2 + v_21) < (v_31 - v_33) → zCal X d yX1_allow wX1_allow [.int 0] g_27 (fun r g_34 => r = none ∧ False) KX) ∧ (¬ (x2 + v_21) < (v_31 - v_33) → zCal X d yX1_allow wX1_allow [.int 1] g_27 (fun r g_35 => r = none ∧ zGz g_35 + 1 + 7 ≤ zz X ∧ ∀ a_36 : Nat, zFr g_35 a_36 → ∀ g_37 : zG, g_37 = zSz (zSo g_35 4 a_36 [.int 0, .int 0, .int 0, .int 0, .int 0, .int 0, .int 0]) (zGz g_35 + 1 + 7) → ∃ (fs_38 : List Value) (a_39 : Nat), zGo g_37 1 a0 = some fs_38 ∧ fs_38[2]? = some (.ref a_39) ∧ zIs g_37 0 a_39 ∧ zCal X d yJ2_size wJ2_size [.ref a_39] g_37 (fun r g_40 => ∃ v_41 : Int32, r = some (.int v_41) ∧ ∃ (fs_42 : List Value) (v_43 : Int32), zGo g_40 1 a0 = some fs_42 ∧ fs_42[5]? = some (.int v_43) ∧ (v_43 ≤ (x2 + v_21) → zCal X d yX4_init wX4_init [.ref a_36, .int v_41, .int (x2 + v_21), .int x1, .int x3, .int x4, .int x5, .int 0] g_40 (fun r g_44 => r = none ∧ K (some (.ref a_36)) g_44) KX) ∧ (¬ v_43 ≤ (x2 + v_21) → zCal X d yX4_init wX4_init [.ref a_36, .int v_41, .int (x2 + v_21), .int x1, .int x3, .int x4, .int x5, .int 1] g_40 (fun r g_45 => r = none ∧ K (some (.ref a_36)) g_45) KX)) KX) KX))) KX)) KX)) KX)) KX)) KX)) KX) KX) KX) : zCal X (d + 1) yX1_comer wX1_comer [.ref a0, .int x1, .int x2, .int x3, .int x4, .int x5] g K KX := by
  refine z_enter hok pn_X1 (Nat.le_of_ble_eq_true rfl) (fun E C hQ => ?_)
  have C : zC X (d + 1) E RX1 cX1_comer 7 (some (.object "LogGrammar$Event")) "comer" := C
  show GW X E 7 g 0 [(0, .ref a0), (1, .int x1), (2, .int x2), (3, .int x3), (4, .int x4), (5, .int x5)] []
  intro H locs ls hR hS hl
  refine lv_iload_n C.x C.b dX1_comer_0 rfl (lv_at hl 1 rfl) ?_
  refine z_callS C hR hS hl (n := 1) (y := yX1_isNode) (bytes := cX1_isNode) (maxL := 1) (rt := (some .boolean)) (As := [.int x1]) (rest := []) (lw_S q698 q699 q73 q700) hdS_X1_isNode (by decide) rfl rfl (Nat.le_of_ble_eq_true rfl) dX1_comer_1 h (fun r g_1 hk_ => ?_) (fun x g1 h => z_out C hQ h)
  clear h; obtain ⟨v_2, rfl, zb_, h⟩ := hk_
  show GW X E 7 g_1 4 [(0, .ref a0), (1, .int x1), (2, .int x2), (3, .int x3), (4, .int x4), (5, .int x5)] [.int v_2]
  intro H locs ls hR hS hl
  refine z_callS C hR hS hl (n := 1) (y := yX1_place) (bytes := cX1_place) (maxL := 1) (rt := none) (As := [.int v_2]) (rest := []) (lw_S q704 q705 q73 q706) hdS_X1_place (by decide) rfl rfl (Nat.le_of_ble_eq_true rfl) dX1_comer_4 h (fun r g_3 hk_ => ?_) (fun x g1 h => z_out C hQ h)
  clear h; obtain ⟨rfl, h⟩ := hk_
  show GW X E 7 g_3 7 [(0, .ref a0), (1, .int x1), (2, .int x2), (3, .int x3), (4, .int x4), (5, .int x5)] []
  intro H locs ls hR hS hl
  refine lv_iload_n C.x C.b dX1_comer_7 rfl (lv_at hl 2 rfl) ?_
  refine lv_sipush (v := 1000) C.x C.b dX1_comer_8 (by decide) ?_
  refine lv_sipush (v := 10000) C.x C.b dX1_comer_11 (by decide) ?_
  refine z_callS C hR hS hl (n := 3) (y := yX1_isIn) (bytes := cX1_isIn) (maxL := 3) (rt := (some .boolean)) (As := [.int x2, .int 1000, .int 10000]) (rest := []) (lw_S q701 q702 q73 q703) hdS_X1_isIn (by decide) rfl rfl (Nat.le_of_ble_eq_true rfl) dX1_comer_14 h (fun r g_4 hk_ => ?_) (fun x g1 h => z_out C hQ h)
  clear h; obtain ⟨v_5, rfl, zb_, h⟩ := hk_
  show GW X E 7 g_4 17 [(0, .ref a0), (1, .int x1), (2, .int x2), (3, .int x3), (4, .int x4), (5, .int x5)] [.int v_5]
  intro H locs ls hR hS hl
  obtain ⟨h1, h2⟩ := h
  refine lv_if_eq (tgt := 59) C.x C.b dX1_comer_17 (by decide) (fun c => ?_) (fun c => ?_)
  · have h := h1 c; clear h1 h2
    refine lv_iconst (v := 0) C.x C.b dX1_comer_59 (by decide) ?_
    refine z_callS C hR hS hl (n := 1) (y := yX1_check) (bytes := cX1_check) (maxL := 1) (rt := none) (As := [.int 0]) (rest := []) (lw_S q720 q721 q73 q722) hdS_X1_check (by decide) rfl rfl (Nat.le_of_ble_eq_true rfl) dX1_comer_60 h (fun r g_6 hk_ => ?_) (fun x g1 h => z_out C hQ h)
    exact hk_.2.elim
  · have h := h2 c; clear h1 h2
    refine lv_iload_n C.x C.b dX1_comer_20 rfl (lv_at hl 3 rfl) ?_
    refine lv_iconst (v := 0) C.x C.b dX1_comer_21 (by decide) ?_
    refine lv_bipush (v := 7) C.x C.b dX1_comer_22 (by decide) ?_
    refine z_callS C hR hS hl (n := 3) (y := yX1_isIn) (bytes := cX1_isIn) (maxL := 3) (rt := (some .boolean)) (As := [.int x3, .int 0, .int 7]) (rest := []) (lw_S q701 q702 q73 q703) hdS_X1_isIn (by decide) rfl rfl (Nat.le_of_ble_eq_true rfl) dX1_comer_24 h (fun r g_7 hk_ => ?_) (fun x g1 h => z_out C hQ h)
    clear h; obtain ⟨v_8, rfl, zb_, h⟩ := hk_
    show GW X E 7 g_7 27 [(0, .ref a0), (1, .int x1), (2, .int x2), (3, .int x3), (4, .int x4), (5, .int x5)] [.int v_8]
    intro H locs ls hR hS hl
    obtain ⟨h1, h2⟩ := h
    refine lv_if_eq (tgt := 59) C.x C.b dX1_comer_27 (by decide) (fun c => ?_) (fun c => ?_)
    · have h := h1 c; clear h1 h2
      refine lv_iconst (v := 0) C.x C.b dX1_comer_59 (by decide) ?_
      refine z_callS C hR hS hl (n := 1) (y := yX1_check) (bytes := cX1_check) (maxL := 1) (rt := none) (As := [.int 0]) (rest := []) (lw_S q720 q721 q73 q722) hdS_X1_check (by decide) rfl rfl (Nat.le_of_ble_eq_true rfl) dX1_comer_60 h (fun r g_9 hk_ => ?_) (fun x g1 h => z_out C hQ h)
      exact hk_.2.elim
    · have h := h2 c; clear h1 h2
      refine lv_iload C.x C.b dX1_comer_30 (lv_at hl 4 rfl) ?_
      refine lv_iconst (v := (-1)) C.x C.b dX1_comer_32 (by decide) ?_
      refine lv_bipush (v := 9) C.x C.b dX1_comer_33 (by decide) ?_
      refine z_callS C hR hS hl (n := 3) (y := yX1_isIn) (bytes := cX1_isIn) (maxL := 3) (rt := (some .boolean)) (As := [.int x4, .int (-1), .int 9]) (rest := []) (lw_S q701 q702 q73 q703) hdS_X1_isIn (by decide) rfl rfl (Nat.le_of_ble_eq_true rfl) dX1_comer_35 h (fun r g_10 hk_ => ?_) (fun x g1 h => z_out C hQ h)
      clear h; obtain ⟨v_11, rfl, zb_, h⟩ := hk_
      show GW X E 7 g_10 38 [(0, .ref a0), (1, .int x1), (2, .int x2), (3, .int x3), (4, .int x4), (5, .int x5)] [.int v_11]
      intro H locs ls hR hS hl
      obtain ⟨h1, h2⟩ := h
      refine lv_if_eq (tgt := 59) C.x C.b dX1_comer_38 (by decide) (fun c => ?_) (fun c => ?_)
      · have h := h1 c; clear h1 h2
        refine lv_iconst (v := 0) C.x C.b dX1_comer_59 (by decide) ?_
        refine z_callS C hR hS hl (n := 1) (y := yX1_check) (bytes := cX1_check) (maxL := 1) (rt := none) (As := [.int 0]) (rest := []) (lw_S q720 q721 q73 q722) hdS_X1_check (by decide) rfl rfl (Nat.le_of_ble_eq_true rfl) dX1_comer_60 h (fun r g_12 hk_ => ?_) (fun x g1 h => z_out C hQ h)
        exact hk_.2.elim
      · have h := h2 c; clear h1 h2
        refine lv_iload C.x C.b dX1_comer_41 (lv_at hl 5 rfl) ?_
        refine lv_sipush (v := (-1000)) C.x C.b dX1_comer_43 (by decide) ?_
        refine lv_sipush (v := 1000) C.x C.b dX1_comer_46 (by decide) ?_
        refine z_callS C hR hS hl (n := 3) (y := yX1_isIn) (bytes := cX1_isIn) (maxL := 3) (rt := (some .boolean)) (As := [.int x5, .int (-1000), .int 1000]) (rest := []) (lw_S q701 q702 q73 q703) hdS_X1_isIn (by decide) rfl rfl (Nat.le_of_ble_eq_true rfl) dX1_comer_49 h (fun r g_13 hk_ => ?_) (fun x g1 h => z_out C hQ h)
        clear h; obtain ⟨v_14, rfl, zb_, h⟩ := hk_
        show GW X E 7 g_13 52 [(0, .ref a0), (1, .int x1), (2, .int x2), (3, .int x3), (4, .int x4), (5, .int x5)] [.int v_14]
        intro H locs ls hR hS hl
        obtain ⟨h1, h2⟩ := h
        refine lv_if_eq (tgt := 59) C.x C.b dX1_comer_52 (by decide) (fun c => ?_) (fun c => ?_)
        · have h := h1 c; clear h1 h2
          refine lv_iconst (v := 0) C.x C.b dX1_comer_59 (by decide) ?_
          refine z_callS C hR hS hl (n := 1) (y := yX1_check) (bytes := cX1_check) (maxL := 1) (rt := none) (As := [.int 0]) (rest := []) (lw_S q720 q721 q73 q722) hdS_X1_check (by decide) rfl rfl (Nat.le_of_ble_eq_true rfl) dX1_comer_60 h (fun r g_15 hk_ => ?_) (fun x g1 h => z_out C hQ h)
          exact hk_.2.elim
        · have h := h2 c; clear h1 h2
          refine lv_iconst (v := 1) C.x C.b dX1_comer_55 (by decide) ?_
          refine lv_goto (tgt := 60) C.x C.b dX1_comer_56 (by decide) ?_
          refine z_callS C hR hS hl (n := 1) (y := yX1_check) (bytes := cX1_check) (maxL := 1) (rt := none) (As := [.int 1]) (rest := []) (lw_S q720 q721 q73 q722) hdS_X1_check (by decide) rfl rfl (Nat.le_of_ble_eq_true rfl) dX1_comer_60 h (fun r g_16 hk_ => ?_) (fun x g1 h => z_out C hQ h)
          clear h; obtain ⟨rfl, h⟩ := hk_
          show GW X E 7 g_16 63 [(0, .ref a0), (1, .int x1), (2, .int x2), (3, .int x3), (4, .int x4), (5, .int x5)] []
          intro H locs ls hR hS hl
          refine lv_iload_n C.x C.b dX1_comer_63 rfl (lv_at hl 2 rfl) ?_
          refine lv_aload_n C.x C.b dX1_comer_64 rfl (lv_at hl 0 rfl) ?_
          obtain ⟨fs_17, a_18, q1, q2, h⟩ := h
          refine z_get C hR q1 rfl (ci := 1) rfl in_X1 0 (by decide) q243 (fun _ h => h) q2 dX1_comer_65 ?_
          refine lv_iload_n C.x C.b dX1_comer_68 rfl (lv_at hl 1 rfl) ?_
          obtain ⟨n_19, f_20, q1, q2, h⟩ := h
          refine z_iald C hR q1 (by decide) q2 dX1_comer_69 ?_
          have h := h _ rfl
          generalize f_20 x1.toNatClampNeg = v_21 at h ⊢
          refine lv_iadd C.x C.b dX1_comer_70 ?_
          refine lv_istore (lv' := [(6, .int (x2 + v_21)), (0, .ref a0), (1, .int x1), (2, .int x2), (3, .int x3), (4, .int x4), (5, .int x5)]) C.x C.b dX1_comer_71 hl (by decide) rfl (fun ls hl => ?_)
          refine lv_aload_n C.x C.b dX1_comer_73 rfl (lv_at hl 1 rfl) ?_
          obtain ⟨fs_22, v_23, q1, q2, h⟩ := h
          refine z_get C hR q1 rfl (ci := 1) rfl in_X1 6 (by decide) q253 (fun _ h => h) q2 dX1_comer_74 ?_
          obtain ⟨h1, h2⟩ := h
          refine lv_if_eq (tgt := 112) C.x C.b dX1_comer_77 (by decide) (fun c => ?_) (fun c => ?_)
          · have h := h1 c; clear h1 h2
            refine lv_iconst (v := 0) C.x C.b dX1_comer_112 (by decide) ?_
            refine z_callS C hR hS hl (n := 1) (y := yX1_allow) (bytes := cX1_allow) (maxL := 1) (rt := none) (As := [.int 0]) (rest := []) (lw_S q758 q759 q73 q760) hdS_X1_allow (by decide) rfl rfl (Nat.le_of_ble_eq_true rfl) dX1_comer_113 h (fun r g_24 hk_ => ?_) (fun x g1 h => z_out C hQ h)
            exact hk_.2.elim
          · have h := h2 c; clear h1 h2
            refine lv_aload_n C.x C.b dX1_comer_80 rfl (lv_at hl 1 rfl) ?_
            obtain ⟨fs_25, a_26, q1, q2, h⟩ := h
            refine z_get C hR q1 rfl (ci := 1) rfl in_X1 2 (by decide) q245 (fun _ h => h) q2 dX1_comer_81 ?_
            refine z_callF C hR hS hl (n := 0) (C1 := RJ2) (T := TJ2) (N := 3) (ci := 0) (y := yJ2_size) (bytes := cJ2_size) (maxL := 1) (rt := (some .int)) (As := []) (rest := []) (x := ⟨"java/util/List", "size", "()I"⟩) h.1 rfl (lw_F q291 q294 q296 q76 q298) ⟨C.ok.2.1 _ q293, C.ok.2.1 _ q292, C.ok.2.1 _ q297, C.ok.2.1 _ q295, C.ok.2.1 _ q174⟩ hdF_J2_size (by decide) rfl rfl (Nat.le_of_ble_eq_true rfl) dX1_comer_84 h.2 (fun r g_27 hk_ => ?_) (fun x g1 h => z_out C hQ h)
            clear h; obtain ⟨v_28, rfl, h⟩ := hk_
            show GW X E 7 g_27 89 [(6, .int (x2 + v_21)), (0, .ref a0), (1, .int x1), (2, .int x2), (3, .int x3), (4, .int x4), (5, .int x5)] [.int v_28]
            intro H locs ls hR hS hl
            refine lv_bipush (v := 80) C.x C.b dX1_comer_89 (by decide) ?_
            obtain ⟨h1, h2⟩ := h
            refine lv_icmp_ge (tgt := 112) C.x C.b dX1_comer_91 (by decide) (fun c => ?_) (fun c => ?_)
            · have h := h1 c; clear h1 h2
              refine lv_iconst (v := 0) C.x C.b dX1_comer_112 (by decide) ?_
              refine z_callS C hR hS hl (n := 1) (y := yX1_allow) (bytes := cX1_allow) (maxL := 1) (rt := none) (As := [.int 0]) (rest := []) (lw_S q758 q759 q73 q760) hdS_X1_allow (by decide) rfl rfl (Nat.le_of_ble_eq_true rfl) dX1_comer_113 h (fun r g_29 hk_ => ?_) (fun x g1 h => z_out C hQ h)
              exact hk_.2.elim
            · have h := h2 c; clear h1 h2
              refine lv_iload C.x C.b dX1_comer_94 (lv_at hl 0 rfl) ?_
              refine lv_aload_n C.x C.b dX1_comer_96 rfl (lv_at hl 1 rfl) ?_
              obtain ⟨fs_30, v_31, q1, q2, h⟩ := h
              refine z_get C hR q1 rfl (ci := 1) rfl in_X1 5 (by decide) q252 (fun _ h => h) q2 dX1_comer_97 ?_
              refine lv_aload_n C.x C.b dX1_comer_100 rfl (lv_at hl 1 rfl) ?_
              obtain ⟨fs_32, v_33, q1, q2, h⟩ := h
              refine z_get C hR q1 rfl (ci := 1) rfl in_X1 1 (by decide) q244 (fun _ h => h) q2 dX1_comer_101 ?_
              refine lv_isub C.x C.b dX1_comer_104 ?_
              obtain ⟨h1, h2⟩ := h
              refine lv_icmp_lt (tgt := 112) C.x C.b dX1_comer_105 (by decide) (fun c => ?_) (fun c => ?_)
              · have h := h1 c; clear h1 h2
                refine lv_iconst (v := 0) C.x C.b dX1_comer_112 (by decide) ?_
                refine z_callS C hR hS hl (n := 1) (y := yX1_allow) (bytes := cX1_allow) (maxL := 1) (rt := none) (As := [.int 0]) (rest := []) (lw_S q758 q759 q73 q760) hdS_X1_allow (by decide) rfl rfl (Nat.le_of_ble_eq_true rfl) dX1_comer_113 h (fun r g_34 hk_ => ?_) (fun x g1 h => z_out C hQ h)
                exact hk_.2.elim
              · have h := h2 c; clear h1 h2
                refine lv_iconst (v := 1) C.x C.b dX1_comer_108 (by decide) ?_
                refine lv_goto (tgt := 113) C.x C.b dX1_comer_109 (by decide) ?_
                refine z_callS C hR hS hl (n := 1) (y := yX1_allow) (bytes := cX1_allow) (maxL := 1) (rt := none) (As := [.int 1]) (rest := []) (lw_S q758 q759 q73 q760) hdS_X1_allow (by decide) rfl rfl (Nat.le_of_ble_eq_true rfl) dX1_comer_113 h (fun r g_35 hk_ => ?_) (fun x g1 h => z_out C hQ h)
                clear h; obtain ⟨rfl, h⟩ := hk_
                show GW X E 7 g_35 116 [(6, .int (x2 + v_21)), (0, .ref a0), (1, .int x1), (2, .int x2), (3, .int x3), (4, .int x4), (5, .int x5)] []
                intro H locs ls hR hS hl
                obtain ⟨q1, h⟩ := h
                refine z_new C hR hS 4 rfl (ci := 4) rfl in_X4 tyX4 tyX4_ok q455 q777 q91 (fs := [.int 0, .int 0, .int 0, .int 0, .int 0, .int 0, .int 0]) zdf_X4 q1 dX1_comer_116 (fun a_36 hf H hR hS => ?_)
                have h := h a_36 hf _ rfl
                generalize zSz (zSo g_35 4 a_36 [.int 0, .int 0, .int 0, .int 0, .int 0, .int 0, .int 0]) (zGz g_35 + 1 + 7) = g_37 at h hR
                refine lv_dup C.x C.b dX1_comer_119 rfl ?_
                refine lv_aload_n C.x C.b dX1_comer_120 rfl (lv_at hl 1 rfl) ?_
                obtain ⟨fs_38, a_39, q1, q2, h⟩ := h
                refine z_get C hR q1 rfl (ci := 1) rfl in_X1 2 (by decide) q245 (fun _ h => h) q2 dX1_comer_121 ?_
                refine z_callF C hR hS hl (n := 0) (C1 := RJ2) (T := TJ2) (N := 3) (ci := 0) (y := yJ2_size) (bytes := cJ2_size) (maxL := 1) (rt := (some .int)) (As := []) (rest := [.ref a_36, .ref a_36]) (x := ⟨"java/util/List", "size", "()I"⟩) h.1 rfl (lw_F q291 q294 q296 q76 q298) ⟨C.ok.2.1 _ q293, C.ok.2.1 _ q292, C.ok.2.1 _ q297, C.ok.2.1 _ q295, C.ok.2.1 _ q174⟩ hdF_J2_size (by decide) rfl rfl (Nat.le_of_ble_eq_true rfl) dX1_comer_124 h.2 (fun r g_40 hk_ => ?_) (fun x g1 h => z_out C hQ h)
                clear h; obtain ⟨v_41, rfl, h⟩ := hk_
                show GW X E 7 g_40 129 [(6, .int (x2 + v_21)), (0, .ref a0), (1, .int x1), (2, .int x2), (3, .int x3), (4, .int x4), (5, .int x5)] [.int v_41, .ref a_36, .ref a_36]
                intro H locs ls hR hS hl
                refine lv_iload C.x C.b dX1_comer_129 (lv_at hl 0 rfl) ?_
                refine lv_iload_n C.x C.b dX1_comer_131 rfl (lv_at hl 2 rfl) ?_
                refine lv_iload_n C.x C.b dX1_comer_132 rfl (lv_at hl 4 rfl) ?_
                refine lv_iload C.x C.b dX1_comer_133 (lv_at hl 5 rfl) ?_
                refine lv_iload C.x C.b dX1_comer_135 (lv_at hl 6 rfl) ?_
                refine lv_iload C.x C.b dX1_comer_137 (lv_at hl 0 rfl) ?_
                refine lv_aload_n C.x C.b dX1_comer_139 rfl (lv_at hl 1 rfl) ?_
                obtain ⟨fs_42, v_43, q1, q2, h⟩ := h
                refine z_get C hR q1 rfl (ci := 1) rfl in_X1 5 (by decide) q252 (fun _ h => h) q2 dX1_comer_140 ?_
                obtain ⟨h1, h2⟩ := h
                refine lv_icmp_ge (tgt := 150) C.x C.b dX1_comer_143 (by decide) (fun c => ?_) (fun c => ?_)
                · have h := h1 c; clear h1 h2
                  refine lv_iconst (v := 0) C.x C.b dX1_comer_150 (by decide) ?_
                  refine z_callI C hR hS hl (n := 7) (y := yX4_init) (bytes := cX4_init) (maxL := 8) (As := [.int v_41, .int (x2 + v_21), .int x1, .int x3, .int x4, .int x5, .int 0]) (rest := [.ref a_36]) (lw_meth q780) q91 q778 q779 rfl hdS_X4_init (by decide) rfl rfl (Nat.le_of_ble_eq_true rfl) dX1_comer_151 h (fun r g_44 hk_ => ?_) (fun x g1 h => z_out C hQ h)
                  clear h; obtain ⟨rfl, h⟩ := hk_
                  show GW X E 7 g_44 154 [(6, .int (x2 + v_21)), (0, .ref a0), (1, .int x1), (2, .int x2), (3, .int x3), (4, .int x4), (5, .int x5)] [.ref a_36]
                  intro H locs ls hR hS hl
                  exact z_aret C hQ (Or.inl ⟨_, rfl⟩) (Or.inr ⟨_, rfl⟩) dX1_comer_154 h H locs ls hR hS hl
                · have h := h2 c; clear h1 h2
                  refine lv_iconst (v := 1) C.x C.b dX1_comer_146 (by decide) ?_
                  refine lv_goto (tgt := 151) C.x C.b dX1_comer_147 (by decide) ?_
                  refine z_callI C hR hS hl (n := 7) (y := yX4_init) (bytes := cX4_init) (maxL := 8) (As := [.int v_41, .int (x2 + v_21), .int x1, .int x3, .int x4, .int x5, .int 1]) (rest := [.ref a_36]) (lw_meth q780) q91 q778 q779 rfl hdS_X4_init (by decide) rfl rfl (Nat.le_of_ble_eq_true rfl) dX1_comer_151 h (fun r g_45 hk_ => ?_) (fun x g1 h => z_out C hQ h)
                  clear h; obtain ⟨rfl, h⟩ := hk_
                  show GW X E 7 g_45 154 [(6, .int (x2 + v_21)), (0, .ref a0), (1, .int x1), (2, .int x2), (3, .int x3), (4, .int x4), (5, .int x5)] [.ref a_36]
                  intro H locs ls hR hS hl
                  exact z_aret C hQ (Or.inl ⟨_, rfl⟩) (Or.inr ⟨_, rfl⟩) dX1_comer_154 h H locs ls hR hS hl
theorem hdV_X1_come : yX1_come.cls = RX1 ∧ yX1_come.cls ≠ "java/lang/invoke/MethodHandle" ∧ yX1_come.cls ≠ "java/lang/invoke/VarHandle" ∧ (parseMethodDescriptor yX1_come.desc).map (fun d => d.parameters.length) = some 1 := by decide +kernel
theorem hdV_X1_comer : yX1_comer.cls = RX1 ∧ yX1_comer.cls ≠ "java/lang/invoke/MethodHandle" ∧ yX1_comer.cls ≠ "java/lang/invoke/VarHandle" ∧ (parseMethodDescriptor yX1_comer.desc).map (fun d => d.parameters.length) = some 5 := by decide +kernel
set_option maxHeartbeats 4000000 in
theorem mX1_event {X : zX} {d : Nat} {g : zG} {K : Option Value → zG → Prop} {KX : String → zG → Prop} (hok : zOk X) (a0 : Nat) (x1 : Int32) (x2 : Int32) (x3 : Int32) (x4 : Int32) (x5 : Int32) (h : zIs g 1 a0 ∧ zCal X d yX1_comer wX1_comer [.ref a0, .int x1, .int x2, .int x3, .int x4, .int x5] g (fun r g_1 => ∃ a_3 : Nat, r = some (.ref a_3) ∧ zIs g_1 1 a0 ∧ zCal X d yX1_come wX1_come [.ref a0, .ref a_3] g_1 (fun r g_4 => r = none ∧ ∃ (fs_5 : List Value) (v_6 : Int32), zGo g_4 4 a_3 = some fs_5 ∧ fs_5[0]? = some (.int v_6) ∧ K (some (.int v_6)) g_4) KX) KX) : zCal X (d + 1) yX1_event wX1_event [.ref a0, .int x1, .int x2, .int x3, .int x4, .int x5] g K KX := by
  refine z_enter hok pn_X1 (Nat.le_of_ble_eq_true rfl) (fun E C hQ => ?_)
  have C : zC X (d + 1) E RX1 cX1_event 7 (some .int) "event" := C
  show GW X E 7 g 0 [(0, .ref a0), (1, .int x1), (2, .int x2), (3, .int x3), (4, .int x4), (5, .int x5)] []
  intro H locs ls hR hS hl
  refine lv_aload_n C.x C.b dX1_event_0 rfl (lv_at hl 0 rfl) ?_
  refine lv_iload_n C.x C.b dX1_event_1 rfl (lv_at hl 1 rfl) ?_
  refine lv_iload_n C.x C.b dX1_event_2 rfl (lv_at hl 2 rfl) ?_
  refine lv_iload_n C.x C.b dX1_event_3 rfl (lv_at hl 3 rfl) ?_
  refine lv_iload C.x C.b dX1_event_4 (lv_at hl 4 rfl) ?_
  refine lv_iload C.x C.b dX1_event_6 (lv_at hl 5 rfl) ?_
  refine z_callV C hR hS hl (n := 5) (C1 := RX1) (T := TX1) (N := 12) (ci := 1) (y := yX1_comer) (bytes := cX1_comer) (maxL := 7) (rt := (some (.object "LogGrammar$Event"))) (As := [.int x1, .int x2, .int x3, .int x4, .int x5]) (rest := []) h.1 rfl (lw_V q754 q756 qs13 q73 q757) hdV_X1_comer (by decide) rfl rfl (Nat.le_of_ble_eq_true rfl) dX1_event_8 h.2 (fun r g_1 hk_ => ?_) (fun x g1 h => z_out C hQ h)
  clear h; obtain ⟨a_3, rfl, h⟩ := hk_
  show GW X E 7 g_1 11 [(0, .ref a0), (1, .int x1), (2, .int x2), (3, .int x3), (4, .int x4), (5, .int x5)] [.ref a_3]
  intro H locs ls hR hS hl
  refine lv_astore (lv' := [(6, .ref a_3), (0, .ref a0), (1, .int x1), (2, .int x2), (3, .int x3), (4, .int x4), (5, .int x5)]) C.x C.b dX1_event_11 hl (by decide) rfl (fun ls hl => ?_)
  refine lv_aload_n C.x C.b dX1_event_13 rfl (lv_at hl 1 rfl) ?_
  refine lv_aload C.x C.b dX1_event_14 (lv_at hl 0 rfl) ?_
  refine z_callV C hR hS hl (n := 1) (C1 := RX1) (T := TX1) (N := 12) (ci := 1) (y := yX1_come) (bytes := cX1_come) (maxL := 2) (rt := none) (As := [.ref a_3]) (rest := []) h.1 rfl (lw_V q818 q820 qs14 q73 q821) hdV_X1_come (by decide) rfl rfl (Nat.le_of_ble_eq_true rfl) dX1_event_16 h.2 (fun r g_4 hk_ => ?_) (fun x g1 h => z_out C hQ h)
  clear h; obtain ⟨rfl, h⟩ := hk_
  show GW X E 7 g_4 19 [(6, .ref a_3), (0, .ref a0), (1, .int x1), (2, .int x2), (3, .int x3), (4, .int x4), (5, .int x5)] []
  intro H locs ls hR hS hl
  refine lv_aload C.x C.b dX1_event_19 (lv_at hl 0 rfl) ?_
  obtain ⟨fs_5, v_6, q1, q2, h⟩ := h
  refine z_getN C hR q1 rfl (ci := 4) rfl in_X4 0 (by decide) q784 (fun _ h => h) q2 dX1_event_21 ?_
  exact z_iret C hQ dX1_event_24 h H locs ls hR hS hl
theorem hdS_J2_init_2 : yJ2_init_2.cls ≠ "java/lang/invoke/MethodHandle" ∧ yJ2_init_2.cls ≠ "java/lang/invoke/VarHandle" ∧ (parseMethodDescriptor yJ2_init_2.desc).map (fun d => d.parameters.length) = some 1 := by decide +kernel
theorem hdV_X1_ids : yX1_ids.cls = RX1 ∧ yX1_ids.cls ≠ "java/lang/invoke/MethodHandle" ∧ yX1_ids.cls ≠ "java/lang/invoke/VarHandle" ∧ (parseMethodDescriptor yX1_ids.desc).map (fun d => d.parameters.length) = some 0 := by decide +kernel
set_option maxHeartbeats 4000000 in
theorem bX1_isBarred_51 {X : zX} {d : Nat} {E : zM} {K : Option Value → zG → Prop} {KX : String → zG → Prop} (C : zC X (d + 1) E RX1 cX1_isBarred 8 (some .boolean) "isBarred") (hQ : zQ X E K KX) (g : zG) (a0 : Nat) (a1 : Nat) (a2 : Nat) (x3 : Int32) (x4 : Int32) (a5 : Nat) (h : zIs g 11 a5 ∧ zCal X d yJ22_hasNext wJ22_hasNext [.ref a5] g (fun r g_1 => ∃ v_2 : Int32, r = some (.int v_2) ∧ zbo v_2 ∧ (v_2 = 0 → ∃ (fs_3 : List Value), zGo g_1 1 a0 = some fs_3 ∧ 5 < fs_3.length ∧ ∀ g_4 : zG, g_4 = zSo g_1 1 a0 (fs_3.set 5 (.int x3)) → zbo x4 ∧ K (some (.int x4)) g_4) ∧ (¬ v_2 = 0 → zIs g_1 11 a5 ∧ zCal X d yJ22_next wJ22_next [.ref a5] g_1 (fun r g_5 => ∃ r_6 : Option Nat, r = some (va_rf r_6) ∧ ∃ a_7 : Nat, r_6 = some a_7 ∧ zIs g_5 8 a_7 ∧ ∃ (fs_8 : List Value) (v_9 : Int32), zGo g_5 8 a_7 = some fs_8 ∧ fs_8[4]? = some (.int v_9) ∧ (v_9 = 0 → GW X E 8 g_5 113 [(0, .ref a0), (1, .ref a1), (2, .ref a2), (3, .int x3), (4, .int x4), (5, .ref a5), (6, .ref a_7), (7, .int 0)] []) ∧ (¬ v_9 = 0 → zIs g_5 1 a0 ∧ zCal X d yX1_ids wX1_ids [.ref a0] g_5 (fun r g_10 => ∃ v_11 : Int32, r = some (.int v_11) ∧ ∃ (fs_12 : List Value) (v_13 : Int32), zGo g_10 4 a1 = some fs_12 ∧ fs_12[4]? = some (.int v_13) ∧ (¬ v_13 = (-1) → ∃ (fs_14 : List Value) (v_15 : Int32), zGo g_10 4 a1 = some fs_14 ∧ fs_14[4]? = some (.int v_15) ∧ zIs g_10 8 a_7 ∧ zCal X d yX8_answersIn wX8_answersIn [.ref a_7, .ref a2, .int (v_11 ||| (1 <<< (v_15 &&& 31)))] g_10 (fun r g_16 => r = none ∧ GW X E 8 g_16 113 [(0, .ref a0), (1, .ref a1), (2, .ref a2), (3, .int x3), (4, .int x4), (5, .ref a5), (6, .ref a_7), (7, .int 0)] []) KX) ∧ (v_13 = (-1) → zIs g_10 8 a_7 ∧ zCal X d yX8_answersIn wX8_answersIn [.ref a_7, .ref a2, .int (v_11 ||| 0)] g_10 (fun r g_17 => r = none ∧ GW X E 8 g_17 113 [(0, .ref a0), (1, .ref a1), (2, .ref a2), (3, .int x3), (4, .int x4), (5, .ref a5), (6, .ref a_7), (7, .int 0)] []) KX)) KX)) KX)) KX) : GW X E 8 g 51 [(0, .ref a0), (1, .ref a1), (2, .ref a2), (3, .int x3), (4, .int x4), (5, .ref a5)] [] := by
  intro H locs ls hR hS hl
  refine lv_aload C.x C.b dX1_isBarred_51 (lv_at hl 5 rfl) ?_
  refine z_callF C hR hS hl (n := 0) (C1 := RJ22) (T := TJ22) (N := 4) (ci := 11) (y := yJ22_hasNext) (bytes := cJ22_hasNext) (maxL := 1) (rt := (some .boolean)) (As := []) (rest := []) (x := ⟨"java/util/Iterator", "hasNext", "()Z"⟩) h.1 rfl (lw_F q353 q357 q359 q101 q361) ⟨C.ok.2.1 _ q355, C.ok.2.1 _ q354, C.ok.2.1 _ q360, C.ok.2.1 _ q358, C.ok.2.1 _ q356⟩ hdF_J22_hasNext (by decide) rfl rfl (Nat.le_of_ble_eq_true rfl) dX1_isBarred_53 h.2 (fun r g_1 hk_ => ?_) (fun x g1 h => z_out C hQ h)
  clear h; obtain ⟨v_2, rfl, zb_, h⟩ := hk_
  show GW X E 8 g_1 58 [(0, .ref a0), (1, .ref a1), (2, .ref a2), (3, .int x3), (4, .int x4), (5, .ref a5)] [.int v_2]
  intro H locs ls hR hS hl
  obtain ⟨h1, h2⟩ := h
  refine lv_if_eq (tgt := 204) C.x C.b dX1_isBarred_58 (by decide) (fun c => ?_) (fun c => ?_)
  · have h := h1 c; clear h1 h2
    refine lv_aload_n C.x C.b dX1_isBarred_204 rfl (lv_at hl 0 rfl) ?_
    refine lv_iload_n C.x C.b dX1_isBarred_205 rfl (lv_at hl 3 rfl) ?_
    obtain ⟨fs_3, q1, q2, h⟩ := h
    refine z_put C hR hS q1 rfl (ci := 1) rfl in_X1 tyX1 tyX1_ok nmX1 5 (by decide) q252 (fun _ h => h) rfl ⟨rfl, rfl⟩ q2 dX1_isBarred_206 (fun H locs hR hS => ?_)
    have h := h _ rfl
    generalize zSo g_1 1 a0 (fs_3.set 5 (.int x3)) = g_4 at h hR
    refine lv_iload C.x C.b dX1_isBarred_209 (lv_at hl 4 rfl) ?_
    exact z_zret C hQ (zbo_n h.1) dX1_isBarred_211 h.2 H locs ls hR hS hl
  · have h := h2 c; clear h1 h2
    refine lv_aload C.x C.b dX1_isBarred_61 (lv_at hl 5 rfl) ?_
    refine z_callF C hR hS hl (n := 0) (C1 := RJ22) (T := TJ22) (N := 4) (ci := 11) (y := yJ22_next) (bytes := cJ22_next) (maxL := 3) (rt := (some (.object "java/lang/Object"))) (As := []) (rest := []) (x := ⟨"java/util/Iterator", "next", "()Ljava/lang/Object;"⟩) h.1 rfl (lw_F q363 q366 q368 q101 q370) ⟨C.ok.2.1 _ q365, C.ok.2.1 _ q364, C.ok.2.1 _ q369, C.ok.2.1 _ q367, C.ok.2.1 _ q356⟩ hdF_J22_next (by decide) rfl rfl (Nat.le_of_ble_eq_true rfl) dX1_isBarred_63 h.2 (fun r g_5 hk_ => ?_) (fun x g1 h => z_out C hQ h)
    clear h; obtain ⟨r_6, rfl, h⟩ := hk_
    show GW X E 8 g_5 68 [(0, .ref a0), (1, .ref a1), (2, .ref a2), (3, .int x3), (4, .int x4), (5, .ref a5)] [va_rf r_6]
    intro H locs ls hR hS hl
    obtain ⟨a_7, e_, h⟩ := h; subst e_
    have hl : lv_has ls 8 [(0, .ref a0), (1, .ref a1), (2, .ref a2), (3, .int x3), (4, .int x4), (5, .ref a5)] := by assumption
    show zV X E H locs (F0 (zm E) 68 ls [.ref a_7])
    refine z_castS C hR (ci := 8) (C1 := RX8) (T := TX8) (N := 8) h.1 rfl q375 dX1_isBarred_68 ?_
    have h := h.2
    refine lv_astore (lv' := [(6, .ref a_7), (0, .ref a0), (1, .ref a1), (2, .ref a2), (3, .int x3), (4, .int x4), (5, .ref a5)]) C.x C.b dX1_isBarred_71 hl (by decide) rfl (fun ls hl => ?_)
    refine lv_aload C.x C.b dX1_isBarred_73 (lv_at hl 0 rfl) ?_
    obtain ⟨fs_8, v_9, q1, q2, h⟩ := h
    refine z_getN C hR q1 rfl (ci := 8) rfl in_X8 4 (by decide) q1441 (fun _ h => h) q2 dX1_isBarred_75 ?_
    obtain ⟨h1, h2⟩ := h
    refine lv_if_eq (tgt := 110) C.x C.b dX1_isBarred_78 (by decide) (fun c => ?_) (fun c => ?_)
    · have h := h1 c; clear h1 h2
      refine lv_iconst (v := 0) C.x C.b dX1_isBarred_110 (by decide) ?_
      refine lv_istore (lv' := [(7, .int 0), (6, .ref a_7), (0, .ref a0), (1, .ref a1), (2, .ref a2), (3, .int x3), (4, .int x4), (5, .ref a5)]) C.x C.b dX1_isBarred_111 hl (by decide) rfl (fun ls hl => ?_)
      exact h H locs ls hR hS (lv_sub hl [2, 3, 4, 5, 6, 7, 1, 0] rfl)
    · have h := h2 c; clear h1 h2
      refine lv_aload C.x C.b dX1_isBarred_81 (lv_at hl 0 rfl) ?_
      refine lv_aload_n C.x C.b dX1_isBarred_83 rfl (lv_at hl 3 rfl) ?_
      refine lv_aload_n C.x C.b dX1_isBarred_84 rfl (lv_at hl 1 rfl) ?_
      refine z_callV C hR hS hl (n := 0) (C1 := RX1) (T := TX1) (N := 12) (ci := 1) (y := yX1_ids) (bytes := cX1_ids) (maxL := 3) (rt := (some .int)) (As := []) (rest := [.ref a2, .ref a_7]) h.1 rfl (lw_V q1218 q453 qs4 q73 q454) hdV_X1_ids (by decide) rfl rfl (Nat.le_of_ble_eq_true rfl) dX1_isBarred_85 h.2 (fun r g_10 hk_ => ?_) (fun x g1 h => z_out C hQ h)
      clear h; obtain ⟨v_11, rfl, h⟩ := hk_
      show GW X E 8 g_10 88 [(6, .ref a_7), (0, .ref a0), (1, .ref a1), (2, .ref a2), (3, .int x3), (4, .int x4), (5, .ref a5)] [.int v_11, .ref a2, .ref a_7]
      intro H locs ls hR hS hl
      refine lv_aload_n C.x C.b dX1_isBarred_88 rfl (lv_at hl 2 rfl) ?_
      obtain ⟨fs_12, v_13, q1, q2, h⟩ := h
      refine z_getN C hR q1 rfl (ci := 4) rfl in_X4 4 (by decide) q797 (fun _ h => h) q2 dX1_isBarred_89 ?_
      refine lv_iconst (v := (-1)) C.x C.b dX1_isBarred_92 (by decide) ?_
      obtain ⟨h1, h2⟩ := h
      refine lv_icmp_ne (tgt := 100) C.x C.b dX1_isBarred_93 (by decide) (fun c => ?_) (fun c => ?_)
      · have h := h1 c; clear h1 h2
        refine lv_iconst (v := 1) C.x C.b dX1_isBarred_100 (by decide) ?_
        refine lv_aload_n C.x C.b dX1_isBarred_101 rfl (lv_at hl 2 rfl) ?_
        obtain ⟨fs_14, v_15, q1, q2, h⟩ := h
        refine z_getN C hR q1 rfl (ci := 4) rfl in_X4 4 (by decide) q797 (fun _ h => h) q2 dX1_isBarred_102 ?_
        refine lv_ishl C.x C.b dX1_isBarred_105 ?_
        refine lv_ior C.x C.b dX1_isBarred_106 ?_
        refine z_callV C hR hS hl (n := 2) (C1 := RX8) (T := TX8) (N := 8) (ci := 8) (y := yX8_answersIn) (bytes := cX8_answersIn) (maxL := 4) (rt := none) (As := [.ref a2, .int (v_11 ||| (1 <<< (v_15 &&& 31)))]) (rest := []) h.1 rfl (lw_V q1219 q1122 q1123 q107 q1124) hdV_X8_answersIn (by decide) rfl rfl (Nat.le_of_ble_eq_true rfl) dX1_isBarred_107 h.2 (fun r g_16 hk_ => ?_) (fun x g1 h => z_out C hQ h)
        clear h; obtain ⟨rfl, h⟩ := hk_
        show GW X E 8 g_16 110 [(6, .ref a_7), (0, .ref a0), (1, .ref a1), (2, .ref a2), (3, .int x3), (4, .int x4), (5, .ref a5)] []
        intro H locs ls hR hS hl
        refine lv_iconst (v := 0) C.x C.b dX1_isBarred_110 (by decide) ?_
        refine lv_istore (lv' := [(7, .int 0), (6, .ref a_7), (0, .ref a0), (1, .ref a1), (2, .ref a2), (3, .int x3), (4, .int x4), (5, .ref a5)]) C.x C.b dX1_isBarred_111 hl (by decide) rfl (fun ls hl => ?_)
        exact h H locs ls hR hS (lv_sub hl [2, 3, 4, 5, 6, 7, 1, 0] rfl)
      · have h := h2 c; clear h1 h2
        refine lv_iconst (v := 0) C.x C.b dX1_isBarred_96 (by decide) ?_
        refine lv_goto (tgt := 106) C.x C.b dX1_isBarred_97 (by decide) ?_
        refine lv_ior C.x C.b dX1_isBarred_106 ?_
        refine z_callV C hR hS hl (n := 2) (C1 := RX8) (T := TX8) (N := 8) (ci := 8) (y := yX8_answersIn) (bytes := cX8_answersIn) (maxL := 4) (rt := none) (As := [.ref a2, .int (v_11 ||| 0)]) (rest := []) h.1 rfl (lw_V q1219 q1122 q1123 q107 q1124) hdV_X8_answersIn (by decide) rfl rfl (Nat.le_of_ble_eq_true rfl) dX1_isBarred_107 h.2 (fun r g_17 hk_ => ?_) (fun x g1 h => z_out C hQ h)
        clear h; obtain ⟨rfl, h⟩ := hk_
        show GW X E 8 g_17 110 [(6, .ref a_7), (0, .ref a0), (1, .ref a1), (2, .ref a2), (3, .int x3), (4, .int x4), (5, .ref a5)] []
        intro H locs ls hR hS hl
        refine lv_iconst (v := 0) C.x C.b dX1_isBarred_110 (by decide) ?_
        refine lv_istore (lv' := [(7, .int 0), (6, .ref a_7), (0, .ref a0), (1, .ref a1), (2, .ref a2), (3, .int x3), (4, .int x4), (5, .ref a5)]) C.x C.b dX1_isBarred_111 hl (by decide) rfl (fun ls hl => ?_)
        exact h H locs ls hR hS (lv_sub hl [2, 3, 4, 5, 6, 7, 1, 0] rfl)
set_option maxHeartbeats 4000000 in
theorem bX1_isBarred_113 {X : zX} {d : Nat} {E : zM} {K : Option Value → zG → Prop} {KX : String → zG → Prop} (C : zC X (d + 1) E RX1 cX1_isBarred 8 (some .boolean) "isBarred") (hQ : zQ X E K KX) (g : zG) (a0 : Nat) (a1 : Nat) (a2 : Nat) (x3 : Int32) (x4 : Int32) (a5 : Nat) (a6 : Nat) (x7 : Int32) (h : zIs g 0 a2 ∧ zCal X d yJ2_size wJ2_size [.ref a2] g (fun r g_1 => ∃ v_2 : Int32, r = some (.int v_2) ∧ (v_2 ≤ x7 → GW X E 8 g_1 51 [(0, .ref a0), (1, .ref a1), (2, .ref a2), (3, .int x3), (4, .int x4), (5, .ref a5)] []) ∧ (¬ v_2 ≤ x7 → ∃ (fs_3 : List Value) (v_4 : Int32), zGo g_1 8 a6 = some fs_3 ∧ fs_3[4]? = some (.int v_4) ∧ (v_4 = 0 → GW X E 8 g_1 51 [(0, .ref a0), (1, .ref a1), (2, .ref a2), (3, .int x3), (4, .int x4), (5, .ref a5)] []) ∧ (¬ v_4 = 0 → (¬ x4 = 0 → GW X E 8 g_1 113 [(0, .ref a0), (1, .ref a1), (2, .ref a2), (3, .int x3), (4, .int 1), (5, .ref a5), (6, .ref a6), (7, .int (x7 + 1))] []) ∧ (x4 = 0 → ∃ (fs_5 : List Value) (a_6 : Nat), zGo g_1 1 a0 = some fs_5 ∧ fs_5[10]? = some (.ref a_6) ∧ ∃ (n_7 : Nat) (f_8 : Nat → Int32), zGi g_1 51 a_6 = some (n_7, f_8) ∧ vp_in x7 n_7 ∧ ∀ v_9 : Int32, v_9 = f_8 x7.toNatClampNeg → (¬ v_9 = 0 → GW X E 8 g_1 113 [(0, .ref a0), (1, .ref a1), (2, .ref a2), (3, .int x3), (4, .int 0), (5, .ref a5), (6, .ref a6), (7, .int (x7 + 1))] []) ∧ (v_9 = 0 → ∃ (fs_10 : List Value) (a_11 : Nat), zGo g_1 1 a0 = some fs_10 ∧ fs_10[2]? = some (.ref a_11) ∧ zIs g_1 0 a_11 ∧ zCal X d yJ2_size wJ2_size [.ref a_11] g_1 (fun r g_12 => ∃ v_13 : Int32, r = some (.int v_13) ∧ (x7 = v_13 → GW X E 8 g_12 113 [(0, .ref a0), (1, .ref a1), (2, .ref a2), (3, .int x3), (4, .int 1), (5, .ref a5), (6, .ref a6), (7, .int (x7 + 1))] []) ∧ (¬ x7 = v_13 → ∃ (fs_14 : List Value) (a_15 : Nat), zGo g_12 8 a6 = some fs_14 ∧ fs_14[5]? = some (.ref a_15) ∧ zIs g_12 0 a_15 ∧ zCal X d yJ2_get wJ2_get [.ref a_15, .int x7] g_12 (fun r g_16 => ∃ r_17 : Option Nat, r = some (va_rf r_17) ∧ ∃ a_18 : Nat, r_17 = some a_18 ∧ zIs g_16 6 a_18 ∧ ∃ (fs_19 : List Value) (a_20 : Nat), zGo g_16 6 a_18 = some fs_19 ∧ fs_19[0]? = some (.ref a_20) ∧ (∃ k : Nat, k < 256 ∧ a_20 = zN X k) ∧ ∃ k_21 : Nat, k_21 < 256 ∧ a_20 = zN X k_21 ∧ ∀ v_22 : Int32, v_22 = vb_c k_21 → (v_22 = 0 → GW X E 8 g_16 113 [(0, .ref a0), (1, .ref a1), (2, .ref a2), (3, .int x3), (4, .int 0), (5, .ref a5), (6, .ref a6), (7, .int (x7 + 1))] []) ∧ (¬ v_22 = 0 → GW X E 8 g_16 113 [(0, .ref a0), (1, .ref a1), (2, .ref a2), (3, .int x3), (4, .int 1), (5, .ref a5), (6, .ref a6), (7, .int (x7 + 1))] [])) KX)) KX))))) KX) : GW X E 8 g 113 [(0, .ref a0), (1, .ref a1), (2, .ref a2), (3, .int x3), (4, .int x4), (5, .ref a5), (6, .ref a6), (7, .int x7)] [] := by
  intro H locs ls hR hS hl
  refine lv_iload C.x C.b dX1_isBarred_113 (lv_at hl 7 rfl) ?_
  refine lv_aload_n C.x C.b dX1_isBarred_115 rfl (lv_at hl 2 rfl) ?_
  refine z_callF C hR hS hl (n := 0) (C1 := RJ2) (T := TJ2) (N := 3) (ci := 0) (y := yJ2_size) (bytes := cJ2_size) (maxL := 1) (rt := (some .int)) (As := []) (rest := [.int x7]) (x := ⟨"java/util/List", "size", "()I"⟩) h.1 rfl (lw_F q291 q294 q296 q76 q298) ⟨C.ok.2.1 _ q293, C.ok.2.1 _ q292, C.ok.2.1 _ q297, C.ok.2.1 _ q295, C.ok.2.1 _ q174⟩ hdF_J2_size (by decide) rfl rfl (Nat.le_of_ble_eq_true rfl) dX1_isBarred_116 h.2 (fun r g_1 hk_ => ?_) (fun x g1 h => z_out C hQ h)
  clear h; obtain ⟨v_2, rfl, h⟩ := hk_
  show GW X E 8 g_1 121 [(0, .ref a0), (1, .ref a1), (2, .ref a2), (3, .int x3), (4, .int x4), (5, .ref a5), (6, .ref a6), (7, .int x7)] [.int v_2, .int x7]
  intro H locs ls hR hS hl
  obtain ⟨h1, h2⟩ := h
  refine lv_icmp_ge (tgt := 201) C.x C.b dX1_isBarred_121 (by decide) (fun c => ?_) (fun c => ?_)
  · have h := h1 c; clear h1 h2
    refine lv_goto (tgt := 51) C.x C.b dX1_isBarred_201 (by decide) ?_
    exact h H locs ls hR hS (lv_sub hl [0, 1, 2, 3, 4, 5] rfl)
  · have h := h2 c; clear h1 h2
    refine lv_aload C.x C.b dX1_isBarred_124 (lv_at hl 6 rfl) ?_
    obtain ⟨fs_3, v_4, q1, q2, h⟩ := h
    refine z_getN C hR q1 rfl (ci := 8) rfl in_X8 4 (by decide) q1441 (fun _ h => h) q2 dX1_isBarred_126 ?_
    obtain ⟨h1, h2⟩ := h
    refine lv_if_eq (tgt := 201) C.x C.b dX1_isBarred_129 (by decide) (fun c => ?_) (fun c => ?_)
    · have h := h1 c; clear h1 h2
      refine lv_goto (tgt := 51) C.x C.b dX1_isBarred_201 (by decide) ?_
      exact h H locs ls hR hS (lv_sub hl [0, 1, 2, 3, 4, 5] rfl)
    · have h := h2 c; clear h1 h2
      refine lv_iload C.x C.b dX1_isBarred_132 (lv_at hl 4 rfl) ?_
      obtain ⟨h1, h2⟩ := h
      refine lv_if_ne (tgt := 188) C.x C.b dX1_isBarred_134 (by decide) (fun c => ?_) (fun c => ?_)
      · have h := h1 c; clear h1 h2
        refine lv_iconst (v := 1) C.x C.b dX1_isBarred_188 (by decide) ?_
        refine lv_goto (tgt := 193) C.x C.b dX1_isBarred_189 (by decide) ?_
        refine lv_istore (lv' := [(4, .int 1), (0, .ref a0), (1, .ref a1), (2, .ref a2), (3, .int x3), (5, .ref a5), (6, .ref a6), (7, .int x7)]) C.x C.b dX1_isBarred_193 hl (by decide) rfl (fun ls hl => ?_)
        refine lv_iinc (v := x7 + 1) (lv' := [(7, .int (x7 + 1)), (4, .int 1), (0, .ref a0), (1, .ref a1), (2, .ref a2), (3, .int x3), (5, .ref a5), (6, .ref a6)]) C.x C.b dX1_isBarred_195 hl (k := 7) rfl rfl (by decide) rfl (fun ls hl => ?_)
        refine lv_goto (tgt := 113) C.x C.b dX1_isBarred_198 (by decide) ?_
        exact h H locs ls hR hS (lv_sub hl [2, 3, 4, 5, 1, 6, 7, 0] rfl)
      · have h := h2 c; clear h1 h2
        refine lv_aload_n C.x C.b dX1_isBarred_137 rfl (lv_at hl 0 rfl) ?_
        obtain ⟨fs_5, a_6, q1, q2, h⟩ := h
        refine z_get C hR q1 rfl (ci := 1) rfl in_X1 10 (by decide) q259 (fun _ h => h) q2 dX1_isBarred_138 ?_
        refine lv_iload C.x C.b dX1_isBarred_141 (lv_at hl 7 rfl) ?_
        obtain ⟨n_7, f_8, q1, q2, h⟩ := h
        refine z_iald C hR q1 (by decide) q2 dX1_isBarred_143 ?_
        have h := h _ rfl
        generalize f_8 x7.toNatClampNeg = v_9 at h ⊢
        obtain ⟨h1, h2⟩ := h
        refine lv_if_ne (tgt := 192) C.x C.b dX1_isBarred_144 (by decide) (fun c => ?_) (fun c => ?_)
        · have h := h1 c; clear h1 h2
          refine lv_iconst (v := 0) C.x C.b dX1_isBarred_192 (by decide) ?_
          refine lv_istore (lv' := [(4, .int 0), (0, .ref a0), (1, .ref a1), (2, .ref a2), (3, .int x3), (5, .ref a5), (6, .ref a6), (7, .int x7)]) C.x C.b dX1_isBarred_193 hl (by decide) rfl (fun ls hl => ?_)
          refine lv_iinc (v := x7 + 1) (lv' := [(7, .int (x7 + 1)), (4, .int 0), (0, .ref a0), (1, .ref a1), (2, .ref a2), (3, .int x3), (5, .ref a5), (6, .ref a6)]) C.x C.b dX1_isBarred_195 hl (k := 7) rfl rfl (by decide) rfl (fun ls hl => ?_)
          refine lv_goto (tgt := 113) C.x C.b dX1_isBarred_198 (by decide) ?_
          exact h H locs ls hR hS (lv_sub hl [2, 3, 4, 5, 1, 6, 7, 0] rfl)
        · have h := h2 c; clear h1 h2
          refine lv_iload C.x C.b dX1_isBarred_147 (lv_at hl 7 rfl) ?_
          refine lv_aload_n C.x C.b dX1_isBarred_149 rfl (lv_at hl 0 rfl) ?_
          obtain ⟨fs_10, a_11, q1, q2, h⟩ := h
          refine z_get C hR q1 rfl (ci := 1) rfl in_X1 2 (by decide) q245 (fun _ h => h) q2 dX1_isBarred_150 ?_
          refine z_callF C hR hS hl (n := 0) (C1 := RJ2) (T := TJ2) (N := 3) (ci := 0) (y := yJ2_size) (bytes := cJ2_size) (maxL := 1) (rt := (some .int)) (As := []) (rest := [.int x7]) (x := ⟨"java/util/List", "size", "()I"⟩) h.1 rfl (lw_F q291 q294 q296 q76 q298) ⟨C.ok.2.1 _ q293, C.ok.2.1 _ q292, C.ok.2.1 _ q297, C.ok.2.1 _ q295, C.ok.2.1 _ q174⟩ hdF_J2_size (by decide) rfl rfl (Nat.le_of_ble_eq_true rfl) dX1_isBarred_153 h.2 (fun r g_12 hk_ => ?_) (fun x g1 h => z_out C hQ h)
          clear h; obtain ⟨v_13, rfl, h⟩ := hk_
          show GW X E 8 g_12 158 [(0, .ref a0), (1, .ref a1), (2, .ref a2), (3, .int x3), (4, .int x4), (5, .ref a5), (6, .ref a6), (7, .int x7)] [.int v_13, .int x7]
          intro H locs ls hR hS hl
          obtain ⟨h1, h2⟩ := h
          refine lv_icmp_eq (tgt := 188) C.x C.b dX1_isBarred_158 (by decide) (fun c => ?_) (fun c => ?_)
          · have h := h1 c; clear h1 h2
            refine lv_iconst (v := 1) C.x C.b dX1_isBarred_188 (by decide) ?_
            refine lv_goto (tgt := 193) C.x C.b dX1_isBarred_189 (by decide) ?_
            refine lv_istore (lv' := [(4, .int 1), (0, .ref a0), (1, .ref a1), (2, .ref a2), (3, .int x3), (5, .ref a5), (6, .ref a6), (7, .int x7)]) C.x C.b dX1_isBarred_193 hl (by decide) rfl (fun ls hl => ?_)
            refine lv_iinc (v := x7 + 1) (lv' := [(7, .int (x7 + 1)), (4, .int 1), (0, .ref a0), (1, .ref a1), (2, .ref a2), (3, .int x3), (5, .ref a5), (6, .ref a6)]) C.x C.b dX1_isBarred_195 hl (k := 7) rfl rfl (by decide) rfl (fun ls hl => ?_)
            refine lv_goto (tgt := 113) C.x C.b dX1_isBarred_198 (by decide) ?_
            exact h H locs ls hR hS (lv_sub hl [2, 3, 4, 5, 1, 6, 7, 0] rfl)
          · have h := h2 c; clear h1 h2
            refine lv_aload C.x C.b dX1_isBarred_161 (lv_at hl 6 rfl) ?_
            obtain ⟨fs_14, a_15, q1, q2, h⟩ := h
            refine z_getN C hR q1 rfl (ci := 8) rfl in_X8 5 (by decide) q1443 (fun _ h => h) q2 dX1_isBarred_163 ?_
            refine lv_iload C.x C.b dX1_isBarred_166 (lv_at hl 7 rfl) ?_
            refine z_callF C hR hS hl (n := 1) (C1 := RJ2) (T := TJ2) (N := 3) (ci := 0) (y := yJ2_get) (bytes := cJ2_get) (maxL := 2) (rt := (some (.object "java/lang/Object"))) (As := [.int x7]) (rest := []) (x := ⟨"java/util/List", "get", "(I)Ljava/lang/Object;"⟩) h.1 rfl (lw_F q378 q381 q383 q76 q385) ⟨C.ok.2.1 _ q380, C.ok.2.1 _ q379, C.ok.2.1 _ q384, C.ok.2.1 _ q382, C.ok.2.1 _ q174⟩ hdF_J2_get (by decide) rfl rfl (Nat.le_of_ble_eq_true rfl) dX1_isBarred_168 h.2 (fun r g_16 hk_ => ?_) (fun x g1 h => z_out C hQ h)
            clear h; obtain ⟨r_17, rfl, h⟩ := hk_
            show GW X E 8 g_16 173 [(0, .ref a0), (1, .ref a1), (2, .ref a2), (3, .int x3), (4, .int x4), (5, .ref a5), (6, .ref a6), (7, .int x7)] [va_rf r_17]
            intro H locs ls hR hS hl
            obtain ⟨a_18, e_, h⟩ := h; subst e_
            have hl : lv_has ls 8 [(0, .ref a0), (1, .ref a1), (2, .ref a2), (3, .int x3), (4, .int x4), (5, .ref a5), (6, .ref a6), (7, .int x7)] := by assumption
            show zV X E H locs (F0 (zm E) 173 ls [.ref a_18])
            refine z_castS C hR (ci := 6) (C1 := RX6) (T := TX6) (N := 2) h.1 rfl q1220 dX1_isBarred_173 ?_
            have h := h.2
            obtain ⟨fs_19, a_20, q1, q2, h⟩ := h
            refine z_getN C hR q1 rfl (ci := 6) rfl in_X6 0 (by decide) q1162 (fun _ h => h) q2 dX1_isBarred_176 ?_
            obtain ⟨q1, h⟩ := h
            refine z_castI C hR hS q1 q1221 dX1_isBarred_179 ?_
            obtain ⟨k_21, q0, q1, h⟩ := h
            rw [q1]
            have h := h _ rfl
            refine z_intValue C hR hS hl (lc := [(0, .ref a0), (1, .ref a1), (2, .ref a2), (3, .int x3), (4, .int x4), (5, .ref a5), (6, .ref a6), (7, .int x7)]) (rest := []) q0 q1222 (Nat.le_of_ble_eq_true rfl) dX1_isBarred_182 ?_
            generalize vb_c k_21 = v_22 at h ⊢
            show GW X E 8 g_16 185 [(0, .ref a0), (1, .ref a1), (2, .ref a2), (3, .int x3), (4, .int x4), (5, .ref a5), (6, .ref a6), (7, .int x7)] [.int v_22]
            intro H locs ls hR hS hl
            obtain ⟨h1, h2⟩ := h
            refine lv_if_eq (tgt := 192) C.x C.b dX1_isBarred_185 (by decide) (fun c => ?_) (fun c => ?_)
            · have h := h1 c; clear h1 h2
              refine lv_iconst (v := 0) C.x C.b dX1_isBarred_192 (by decide) ?_
              refine lv_istore (lv' := [(4, .int 0), (0, .ref a0), (1, .ref a1), (2, .ref a2), (3, .int x3), (5, .ref a5), (6, .ref a6), (7, .int x7)]) C.x C.b dX1_isBarred_193 hl (by decide) rfl (fun ls hl => ?_)
              refine lv_iinc (v := x7 + 1) (lv' := [(7, .int (x7 + 1)), (4, .int 0), (0, .ref a0), (1, .ref a1), (2, .ref a2), (3, .int x3), (5, .ref a5), (6, .ref a6)]) C.x C.b dX1_isBarred_195 hl (k := 7) rfl rfl (by decide) rfl (fun ls hl => ?_)
              refine lv_goto (tgt := 113) C.x C.b dX1_isBarred_198 (by decide) ?_
              exact h H locs ls hR hS (lv_sub hl [2, 3, 4, 5, 1, 6, 7, 0] rfl)
            · have h := h2 c; clear h1 h2
              refine lv_iconst (v := 1) C.x C.b dX1_isBarred_188 (by decide) ?_
              refine lv_goto (tgt := 193) C.x C.b dX1_isBarred_189 (by decide) ?_
              refine lv_istore (lv' := [(4, .int 1), (0, .ref a0), (1, .ref a1), (2, .ref a2), (3, .int x3), (5, .ref a5), (6, .ref a6), (7, .int x7)]) C.x C.b dX1_isBarred_193 hl (by decide) rfl (fun ls hl => ?_)
              refine lv_iinc (v := x7 + 1) (lv' := [(7, .int (x7 + 1)), (4, .int 1), (0, .ref a0), (1, .ref a1), (2, .ref a2), (3, .int x3), (5, .ref a5), (6, .ref a6)]) C.x C.b dX1_isBarred_195 hl (k := 7) rfl rfl (by decide) rfl (fun ls hl => ?_)
              refine lv_goto (tgt := 113) C.x C.b dX1_isBarred_198 (by decide) ?_
              exact h H locs ls hR hS (lv_sub hl [2, 3, 4, 5, 1, 6, 7, 0] rfl)
set_option maxHeartbeats 4000000 in
theorem mX1_isBarred {X : zX} {d : Nat} {g : zG} {K : Option Value → zG → Prop} {KX : String → zG → Prop} (hok : zOk X) (a0 : Nat) (a1 : Nat) (h : ∀ E : zM, zC X (d + 1) E RX1 cX1_isBarred 8 (some .boolean) "isBarred" → zQ X E K KX → ∃ k_3 : Nat, zkc k_3 = 0 ∧ zGz g + 1 + 3 ≤ zz X ∧ ∀ a_1 : Nat, zFr g a_1 → ∀ g_2 : zG, g_2 = zSz (zSo g k_3 a_1 [.int 0, .null, .int 0]) (zGz g + 1 + 3) → ∃ (fs_4 : List Value) (a_5 : Nat), zGo g_2 1 a0 = some fs_4 ∧ fs_4[3]? = some (.ref a_5) ∧ zCal X d yJ2_init_2 wJ2_init_2 [.ref a_1, .ref a_5] g_2 (fun r g_6 => r = none ∧ zCal X d yX1_insert wX1_insert [.ref a_1, .ref a1] g_6 (fun r g_7 => r = none ∧ ∃ (fs_8 : List Value) (v_9 : Int32), zGo g_7 1 a0 = some fs_8 ∧ fs_8[5]? = some (.int v_9) ∧ ∃ (fs_10 : List Value) (v_11 : Int32), zGo g_7 1 a0 = some fs_10 ∧ fs_10[5]? = some (.int v_11) ∧ ∃ (fs_12 : List Value) (v_13 : Int32), zGo g_7 4 a1 = some fs_12 ∧ fs_12[1]? = some (.int v_13) ∧ zCal X d yJ4_max wJ4_max [.int v_11, .int v_13] g_7 (fun r g_14 => ∃ v_15 : Int32, r = some (.int v_15) ∧ ∃ (fs_16 : List Value), zGo g_14 1 a0 = some fs_16 ∧ 5 < fs_16.length ∧ ∀ g_17 : zG, g_17 = zSo g_14 1 a0 (fs_16.set 5 (.int v_15)) → ∃ (fs_18 : List Value) (a_19 : Nat), zGo g_17 1 a0 = some fs_18 ∧ fs_18[9]? = some (.ref a_19) ∧ zIs g_17 0 a_19 ∧ zCal X d yJ2_iterator wJ2_iterator [.ref a_19] g_17 (fun r g_20 => ∃ a_22 : Nat, r = some (.ref a_22) ∧ GW X E 8 g_20 51 [(0, .ref a0), (1, .ref a1), (2, .ref a_1), (3, .int v_9), (4, .int 0), (5, .ref a_22)] []) KX) KX) KX) KX) : zCal X (d + 1) yX1_isBarred wX1_isBarred [.ref a0, .ref a1] g K KX := by
  refine z_enter hok pn_X1 (Nat.le_of_ble_eq_true rfl) (fun E C hQ => ?_)
  have C : zC X (d + 1) E RX1 cX1_isBarred 8 (some .boolean) "isBarred" := C
  have h := h E C hQ
  show GW X E 8 g 0 [(0, .ref a0), (1, .ref a1)] []
  intro H locs ls hR hS hl
  obtain ⟨k_3, q0, q1, h⟩ := h
  refine z_new C hR hS k_3 q0 (ci := 0) rfl in_J2 tyJ2 tyJ2_ok q118 q119 q76 (fs := [.int 0, .null, .int 0]) zdf_J2 q1 dX1_isBarred_0 (fun a_1 hf H hR hS => ?_)
  have h := h a_1 hf _ rfl
  generalize zSz (zSo g k_3 a_1 [.int 0, .null, .int 0]) (zGz g + 1 + 3) = g_2 at h hR
  refine lv_dup C.x C.b dX1_isBarred_3 rfl ?_
  refine lv_aload_n C.x C.b dX1_isBarred_4 rfl (lv_at hl 0 rfl) ?_
  obtain ⟨fs_4, a_5, q1, q2, h⟩ := h
  refine z_get C hR q1 rfl (ci := 1) rfl in_X1 3 (by decide) q248 (fun _ h => h) q2 dX1_isBarred_5 ?_
  refine z_callI C hR hS hl (n := 1) (y := yJ2_init_2) (bytes := cJ2_init_2) (maxL := 3) (As := [.ref a_5]) (rest := [.ref a_1]) (lw_meth q1196) q76 q1194 q1195 rfl hdS_J2_init_2 (by decide) rfl rfl (Nat.le_of_ble_eq_true rfl) dX1_isBarred_8 h (fun r g_6 hk_ => ?_) (fun x g1 h => z_out C hQ h)
  clear h; obtain ⟨rfl, h⟩ := hk_
  show GW X E 8 g_6 11 [(0, .ref a0), (1, .ref a1)] [.ref a_1]
  intro H locs ls hR hS hl
  refine lv_astore_n (lv' := [(2, .ref a_1), (0, .ref a0), (1, .ref a1)]) C.x C.b dX1_isBarred_11 rfl hl (by decide) rfl (fun ls hl => ?_)
  refine lv_aload_n C.x C.b dX1_isBarred_12 rfl (lv_at hl 0 rfl) ?_
  refine lv_aload_n C.x C.b dX1_isBarred_13 rfl (lv_at hl 2 rfl) ?_
  refine z_callS C hR hS hl (n := 2) (y := yX1_insert) (bytes := cX1_insert) (maxL := 3) (rt := none) (As := [.ref a_1, .ref a1]) (rest := []) (lw_S q822 q823 q73 q824) hdS_X1_insert (by decide) rfl rfl (Nat.le_of_ble_eq_true rfl) dX1_isBarred_14 h (fun r g_7 hk_ => ?_) (fun x g1 h => z_out C hQ h)
  clear h; obtain ⟨rfl, h⟩ := hk_
  show GW X E 8 g_7 17 [(2, .ref a_1), (0, .ref a0), (1, .ref a1)] []
  intro H locs ls hR hS hl
  refine lv_aload_n C.x C.b dX1_isBarred_17 rfl (lv_at hl 1 rfl) ?_
  obtain ⟨fs_8, v_9, q1, q2, h⟩ := h
  refine z_get C hR q1 rfl (ci := 1) rfl in_X1 5 (by decide) q252 (fun _ h => h) q2 dX1_isBarred_18 ?_
  refine lv_istore_n (lv' := [(3, .int v_9), (2, .ref a_1), (0, .ref a0), (1, .ref a1)]) C.x C.b dX1_isBarred_21 rfl hl (by decide) rfl (fun ls hl => ?_)
  refine lv_aload_n C.x C.b dX1_isBarred_22 rfl (lv_at hl 2 rfl) ?_
  refine lv_aload_n C.x C.b dX1_isBarred_23 rfl (lv_at hl 2 rfl) ?_
  obtain ⟨fs_10, v_11, q1, q2, h⟩ := h
  refine z_get C hR q1 rfl (ci := 1) rfl in_X1 5 (by decide) q252 (fun _ h => h) q2 dX1_isBarred_24 ?_
  refine lv_aload_n C.x C.b dX1_isBarred_27 rfl (lv_at hl 3 rfl) ?_
  obtain ⟨fs_12, v_13, q1, q2, h⟩ := h
  refine z_getN C hR q1 rfl (ci := 4) rfl in_X4 1 (by decide) q788 (fun _ h => h) q2 dX1_isBarred_28 ?_
  refine z_callS C hR hS hl (n := 2) (y := yJ4_max) (bytes := cJ4_max) (maxL := 2) (rt := (some .int)) (As := [.int v_11, .int v_13]) (rest := [.ref a0]) (lw_S q1072 q196 q79 q197) hdS_J4_max (by decide) rfl rfl (Nat.le_of_ble_eq_true rfl) dX1_isBarred_31 h (fun r g_14 hk_ => ?_) (fun x g1 h => z_out C hQ h)
  clear h; obtain ⟨v_15, rfl, h⟩ := hk_
  show GW X E 8 g_14 34 [(3, .int v_9), (2, .ref a_1), (0, .ref a0), (1, .ref a1)] [.int v_15, .ref a0]
  intro H locs ls hR hS hl
  obtain ⟨fs_16, q1, q2, h⟩ := h
  refine z_put C hR hS q1 rfl (ci := 1) rfl in_X1 tyX1 tyX1_ok nmX1 5 (by decide) q252 (fun _ h => h) rfl ⟨rfl, rfl⟩ q2 dX1_isBarred_34 (fun H locs hR hS => ?_)
  have h := h _ rfl
  generalize zSo g_14 1 a0 (fs_16.set 5 (.int v_15)) = g_17 at h hR
  refine lv_iconst (v := 0) C.x C.b dX1_isBarred_37 (by decide) ?_
  refine lv_istore (lv' := [(4, .int 0), (3, .int v_9), (2, .ref a_1), (0, .ref a0), (1, .ref a1)]) C.x C.b dX1_isBarred_38 hl (by decide) rfl (fun ls hl => ?_)
  refine lv_aload_n C.x C.b dX1_isBarred_40 rfl (lv_at hl 3 rfl) ?_
  obtain ⟨fs_18, a_19, q1, q2, h⟩ := h
  refine z_get C hR q1 rfl (ci := 1) rfl in_X1 9 (by decide) q257 (fun _ h => h) q2 dX1_isBarred_41 ?_
  refine z_callF C hR hS hl (n := 0) (C1 := RJ2) (T := TJ2) (N := 3) (ci := 0) (y := yJ2_iterator) (bytes := cJ2_iterator) (maxL := 1) (rt := (some (.object "java/util/Iterator"))) (As := []) (rest := []) (x := ⟨"java/util/List", "iterator", "()Ljava/util/Iterator;"⟩) h.1 rfl (lw_F q325 q328 q330 q76 q332) ⟨C.ok.2.1 _ q327, C.ok.2.1 _ q326, C.ok.2.1 _ q331, C.ok.2.1 _ q329, C.ok.2.1 _ q174⟩ hdF_J2_iterator (by decide) rfl rfl (Nat.le_of_ble_eq_true rfl) dX1_isBarred_44 h.2 (fun r g_20 hk_ => ?_) (fun x g1 h => z_out C hQ h)
  clear h; obtain ⟨a_22, rfl, h⟩ := hk_
  show GW X E 8 g_20 49 [(4, .int 0), (3, .int v_9), (2, .ref a_1), (0, .ref a0), (1, .ref a1)] [.ref a_22]
  intro H locs ls hR hS hl
  refine lv_astore (lv' := [(5, .ref a_22), (4, .int 0), (3, .int v_9), (2, .ref a_1), (0, .ref a0), (1, .ref a1)]) C.x C.b dX1_isBarred_49 hl (by decide) rfl (fun ls hl => ?_)
  exact h H locs ls hR hS (lv_sub hl [4, 5, 3, 2, 1, 0] rfl)
theorem hdV_X1_isBarred : yX1_isBarred.cls = RX1 ∧ yX1_isBarred.cls ≠ "java/lang/invoke/MethodHandle" ∧ yX1_isBarred.cls ≠ "java/lang/invoke/VarHandle" ∧ (parseMethodDescriptor yX1_isBarred.desc).map (fun d => d.parameters.length) = some 1 := by decide +kernel
set_option maxHeartbeats 4000000 in
theorem mX1_offer {X : zX} {d : Nat} {g : zG} {K : Option Value → zG → Prop} {KX : String → zG → Prop} (hok : zOk X) (a0 : Nat) (x1 : Int32) (x2 : Int32) (x3 : Int32) (x4 : Int32) (x5 : Int32) (h : zIs g 1 a0 ∧ zCal X d yX1_comer wX1_comer [.ref a0, .int x1, .int x2, .int x3, .int x4, .int x5] g (fun r g_1 => ∃ a_3 : Nat, r = some (.ref a_3) ∧ zIs g_1 1 a0 ∧ zCal X d yX1_isBarred wX1_isBarred [.ref a0, .ref a_3] g_1 (fun r g_4 => ∃ v_5 : Int32, r = some (.int v_5) ∧ zbo v_5 ∧ (v_5 = 0 → zIs g_4 1 a0 ∧ zCal X d yX1_come wX1_come [.ref a0, .ref a_3] g_4 (fun r g_6 => r = none ∧ ∃ (fs_7 : List Value) (v_8 : Int32), zGo g_6 4 a_3 = some fs_7 ∧ fs_7[0]? = some (.int v_8) ∧ K (some (.int v_8)) g_6) KX) ∧ (¬ v_5 = 0 → ∃ (fs_9 : List Value) (v_10 : Int32), zGo g_4 1 a0 = some fs_9 ∧ fs_9[7]? = some (.int v_10) ∧ ∃ (fs_11 : List Value), zGo g_4 1 a0 = some fs_11 ∧ 7 < fs_11.length ∧ ∀ g_12 : zG, g_12 = zSo g_4 1 a0 (fs_11.set 7 (.int (v_10 + 1))) → K (some (.int (-1))) g_12)) KX) KX) : zCal X (d + 1) yX1_offer wX1_offer [.ref a0, .int x1, .int x2, .int x3, .int x4, .int x5] g K KX := by
  refine z_enter hok pn_X1 (Nat.le_of_ble_eq_true rfl) (fun E C hQ => ?_)
  have C : zC X (d + 1) E RX1 cX1_offer 7 (some .int) "offer" := C
  show GW X E 7 g 0 [(0, .ref a0), (1, .int x1), (2, .int x2), (3, .int x3), (4, .int x4), (5, .int x5)] []
  intro H locs ls hR hS hl
  refine lv_aload_n C.x C.b dX1_offer_0 rfl (lv_at hl 0 rfl) ?_
  refine lv_iload_n C.x C.b dX1_offer_1 rfl (lv_at hl 1 rfl) ?_
  refine lv_iload_n C.x C.b dX1_offer_2 rfl (lv_at hl 2 rfl) ?_
  refine lv_iload_n C.x C.b dX1_offer_3 rfl (lv_at hl 3 rfl) ?_
  refine lv_iload C.x C.b dX1_offer_4 (lv_at hl 4 rfl) ?_
  refine lv_iload C.x C.b dX1_offer_6 (lv_at hl 5 rfl) ?_
  refine z_callV C hR hS hl (n := 5) (C1 := RX1) (T := TX1) (N := 12) (ci := 1) (y := yX1_comer) (bytes := cX1_comer) (maxL := 7) (rt := (some (.object "LogGrammar$Event"))) (As := [.int x1, .int x2, .int x3, .int x4, .int x5]) (rest := []) h.1 rfl (lw_V q754 q756 qs13 q73 q757) hdV_X1_comer (by decide) rfl rfl (Nat.le_of_ble_eq_true rfl) dX1_offer_8 h.2 (fun r g_1 hk_ => ?_) (fun x g1 h => z_out C hQ h)
  clear h; obtain ⟨a_3, rfl, h⟩ := hk_
  show GW X E 7 g_1 11 [(0, .ref a0), (1, .int x1), (2, .int x2), (3, .int x3), (4, .int x4), (5, .int x5)] [.ref a_3]
  intro H locs ls hR hS hl
  refine lv_astore (lv' := [(6, .ref a_3), (0, .ref a0), (1, .int x1), (2, .int x2), (3, .int x3), (4, .int x4), (5, .int x5)]) C.x C.b dX1_offer_11 hl (by decide) rfl (fun ls hl => ?_)
  refine lv_aload_n C.x C.b dX1_offer_13 rfl (lv_at hl 1 rfl) ?_
  refine lv_aload C.x C.b dX1_offer_14 (lv_at hl 0 rfl) ?_
  refine z_callV C hR hS hl (n := 1) (C1 := RX1) (T := TX1) (N := 12) (ci := 1) (y := yX1_isBarred) (bytes := cX1_isBarred) (maxL := 8) (rt := (some .boolean)) (As := [.ref a_3]) (rest := []) h.1 rfl (lw_V q1190 q1192 qs19 q73 q1193) hdV_X1_isBarred (by decide) rfl rfl (Nat.le_of_ble_eq_true rfl) dX1_offer_16 h.2 (fun r g_4 hk_ => ?_) (fun x g1 h => z_out C hQ h)
  clear h; obtain ⟨v_5, rfl, zb_, h⟩ := hk_
  show GW X E 7 g_4 19 [(6, .ref a_3), (0, .ref a0), (1, .int x1), (2, .int x2), (3, .int x3), (4, .int x4), (5, .int x5)] [.int v_5]
  intro H locs ls hR hS hl
  obtain ⟨h1, h2⟩ := h
  refine lv_if_eq (tgt := 34) C.x C.b dX1_offer_19 (by decide) (fun c => ?_) (fun c => ?_)
  · have h := h1 c; clear h1 h2
    refine lv_aload_n C.x C.b dX1_offer_34 rfl (lv_at hl 1 rfl) ?_
    refine lv_aload C.x C.b dX1_offer_35 (lv_at hl 0 rfl) ?_
    refine z_callV C hR hS hl (n := 1) (C1 := RX1) (T := TX1) (N := 12) (ci := 1) (y := yX1_come) (bytes := cX1_come) (maxL := 2) (rt := none) (As := [.ref a_3]) (rest := []) h.1 rfl (lw_V q818 q820 qs14 q73 q821) hdV_X1_come (by decide) rfl rfl (Nat.le_of_ble_eq_true rfl) dX1_offer_37 h.2 (fun r g_6 hk_ => ?_) (fun x g1 h => z_out C hQ h)
    clear h; obtain ⟨rfl, h⟩ := hk_
    show GW X E 7 g_6 40 [(6, .ref a_3), (0, .ref a0), (1, .int x1), (2, .int x2), (3, .int x3), (4, .int x4), (5, .int x5)] []
    intro H locs ls hR hS hl
    refine lv_aload C.x C.b dX1_offer_40 (lv_at hl 0 rfl) ?_
    obtain ⟨fs_7, v_8, q1, q2, h⟩ := h
    refine z_getN C hR q1 rfl (ci := 4) rfl in_X4 0 (by decide) q784 (fun _ h => h) q2 dX1_offer_42 ?_
    exact z_iret C hQ dX1_offer_45 h H locs ls hR hS hl
  · have h := h2 c; clear h1 h2
    refine lv_aload_n C.x C.b dX1_offer_22 rfl (lv_at hl 1 rfl) ?_
    refine lv_dup C.x C.b dX1_offer_23 rfl ?_
    obtain ⟨fs_9, v_10, q1, q2, h⟩ := h
    refine z_get C hR q1 rfl (ci := 1) rfl in_X1 7 (by decide) q255 (fun _ h => h) q2 dX1_offer_24 ?_
    refine lv_iconst (v := 1) C.x C.b dX1_offer_27 (by decide) ?_
    refine lv_iadd C.x C.b dX1_offer_28 ?_
    obtain ⟨fs_11, q1, q2, h⟩ := h
    refine z_put C hR hS q1 rfl (ci := 1) rfl in_X1 tyX1 tyX1_ok nmX1 7 (by decide) q255 (fun _ h => h) rfl ⟨rfl, rfl⟩ q2 dX1_offer_29 (fun H locs hR hS => ?_)
    have h := h _ rfl
    generalize zSo g_4 1 a0 (fs_11.set 7 (.int (v_10 + 1))) = g_12 at h hR
    refine lv_iconst (v := (-1)) C.x C.b dX1_offer_32 (by decide) ?_
    exact z_iret C hQ dX1_offer_33 h H locs ls hR hS hl
set_option maxHeartbeats 4000000 in
theorem bX1_openMany_12 {X : zX} {d : Nat} {E : zM} {K : Option Value → zG → Prop} {KX : String → zG → Prop} (C : zC X (d + 1) E RX1 cX1_openMany 6 (some .int) "openMany") (hQ : zQ X E K KX) (g : zG) (x1 : Int32) (a2 : Nat) (h : zIs g 11 a2 ∧ zCal X d yJ22_hasNext wJ22_hasNext [.ref a2] g (fun r g_1 => ∃ v_2 : Int32, r = some (.int v_2) ∧ zbo v_2 ∧ (v_2 = 0 → K (some (.int x1)) g_1) ∧ (¬ v_2 = 0 → zIs g_1 11 a2 ∧ zCal X d yJ22_next wJ22_next [.ref a2] g_1 (fun r g_3 => ∃ r_4 : Option Nat, r = some (va_rf r_4) ∧ ∃ a_5 : Nat, r_4 = some a_5 ∧ zIs g_3 8 a_5 ∧ ∃ (fs_6 : List Value) (a_7 : Nat), zGo g_3 8 a_5 = some fs_6 ∧ fs_6[5]? = some (.ref a_7) ∧ zIs g_3 0 a_7 ∧ zCal X d yJ2_iterator wJ2_iterator [.ref a_7] g_3 (fun r g_8 => ∃ a_10 : Nat, r = some (.ref a_10) ∧ GW X E 6 g_8 42 [(1, .int x1), (2, .ref a2), (4, .ref a_10)] []) KX) KX)) KX) : GW X E 6 g 12 [(1, .int x1), (2, .ref a2)] [] := by
  intro H locs ls hR hS hl
  refine lv_aload_n C.x C.b dX1_openMany_12 rfl (lv_at hl 1 rfl) ?_
  refine z_callF C hR hS hl (n := 0) (C1 := RJ22) (T := TJ22) (N := 4) (ci := 11) (y := yJ22_hasNext) (bytes := cJ22_hasNext) (maxL := 1) (rt := (some .boolean)) (As := []) (rest := []) (x := ⟨"java/util/Iterator", "hasNext", "()Z"⟩) h.1 rfl (lw_F q353 q357 q359 q101 q361) ⟨C.ok.2.1 _ q355, C.ok.2.1 _ q354, C.ok.2.1 _ q360, C.ok.2.1 _ q358, C.ok.2.1 _ q356⟩ hdF_J22_hasNext (by decide) rfl rfl (Nat.le_of_ble_eq_true rfl) dX1_openMany_13 h.2 (fun r g_1 hk_ => ?_) (fun x g1 h => z_out C hQ h)
  clear h; obtain ⟨v_2, rfl, zb_, h⟩ := hk_
  show GW X E 6 g_1 18 [(1, .int x1), (2, .ref a2)] [.int v_2]
  intro H locs ls hR hS hl
  obtain ⟨h1, h2⟩ := h
  refine lv_if_eq (tgt := 93) C.x C.b dX1_openMany_18 (by decide) (fun c => ?_) (fun c => ?_)
  · have h := h1 c; clear h1 h2
    refine lv_iload_n C.x C.b dX1_openMany_93 rfl (lv_at hl 0 rfl) ?_
    exact z_iret C hQ dX1_openMany_94 h H locs ls hR hS hl
  · have h := h2 c; clear h1 h2
    refine lv_aload_n C.x C.b dX1_openMany_21 rfl (lv_at hl 1 rfl) ?_
    refine z_callF C hR hS hl (n := 0) (C1 := RJ22) (T := TJ22) (N := 4) (ci := 11) (y := yJ22_next) (bytes := cJ22_next) (maxL := 3) (rt := (some (.object "java/lang/Object"))) (As := []) (rest := []) (x := ⟨"java/util/Iterator", "next", "()Ljava/lang/Object;"⟩) h.1 rfl (lw_F q363 q366 q368 q101 q370) ⟨C.ok.2.1 _ q365, C.ok.2.1 _ q364, C.ok.2.1 _ q369, C.ok.2.1 _ q367, C.ok.2.1 _ q356⟩ hdF_J22_next (by decide) rfl rfl (Nat.le_of_ble_eq_true rfl) dX1_openMany_22 h.2 (fun r g_3 hk_ => ?_) (fun x g1 h => z_out C hQ h)
    clear h; obtain ⟨r_4, rfl, h⟩ := hk_
    show GW X E 6 g_3 27 [(1, .int x1), (2, .ref a2)] [va_rf r_4]
    intro H locs ls hR hS hl
    obtain ⟨a_5, e_, h⟩ := h; subst e_
    have hl : lv_has ls 6 [(1, .int x1), (2, .ref a2)] := by assumption
    show zV X E H locs (F0 (zm E) 27 ls [.ref a_5])
    refine z_castS C hR (ci := 8) (C1 := RX8) (T := TX8) (N := 8) h.1 rfl q375 dX1_openMany_27 ?_
    have h := h.2
    refine lv_astore_n (lv' := [(3, .ref a_5), (1, .int x1), (2, .ref a2)]) C.x C.b dX1_openMany_30 rfl hl (by decide) rfl (fun ls hl => ?_)
    refine lv_aload_n C.x C.b dX1_openMany_31 rfl (lv_at hl 0 rfl) ?_
    obtain ⟨fs_6, a_7, q1, q2, h⟩ := h
    refine z_getN C hR q1 rfl (ci := 8) rfl in_X8 5 (by decide) q1443 (fun _ h => h) q2 dX1_openMany_32 ?_
    refine z_callF C hR hS hl (n := 0) (C1 := RJ2) (T := TJ2) (N := 3) (ci := 0) (y := yJ2_iterator) (bytes := cJ2_iterator) (maxL := 1) (rt := (some (.object "java/util/Iterator"))) (As := []) (rest := []) (x := ⟨"java/util/List", "iterator", "()Ljava/util/Iterator;"⟩) h.1 rfl (lw_F q325 q328 q330 q76 q332) ⟨C.ok.2.1 _ q327, C.ok.2.1 _ q326, C.ok.2.1 _ q331, C.ok.2.1 _ q329, C.ok.2.1 _ q174⟩ hdF_J2_iterator (by decide) rfl rfl (Nat.le_of_ble_eq_true rfl) dX1_openMany_35 h.2 (fun r g_8 hk_ => ?_) (fun x g1 h => z_out C hQ h)
    clear h; obtain ⟨a_10, rfl, h⟩ := hk_
    show GW X E 6 g_8 40 [(3, .ref a_5), (1, .int x1), (2, .ref a2)] [.ref a_10]
    intro H locs ls hR hS hl
    refine lv_astore (lv' := [(4, .ref a_10), (3, .ref a_5), (1, .int x1), (2, .ref a2)]) C.x C.b dX1_openMany_40 hl (by decide) rfl (fun ls hl => ?_)
    exact h H locs ls hR hS (lv_sub hl [2, 3, 0] rfl)
set_option maxHeartbeats 4000000 in
theorem bX1_openMany_42 {X : zX} {d : Nat} {E : zM} {K : Option Value → zG → Prop} {KX : String → zG → Prop} (C : zC X (d + 1) E RX1 cX1_openMany 6 (some .int) "openMany") (hQ : zQ X E K KX) (g : zG) (x1 : Int32) (a2 : Nat) (a4 : Nat) (h : zIs g 11 a4 ∧ zCal X d yJ22_hasNext wJ22_hasNext [.ref a4] g (fun r g_1 => ∃ v_2 : Int32, r = some (.int v_2) ∧ zbo v_2 ∧ (v_2 = 0 → GW X E 6 g_1 12 [(1, .int x1), (2, .ref a2)] []) ∧ (¬ v_2 = 0 → zIs g_1 11 a4 ∧ zCal X d yJ22_next wJ22_next [.ref a4] g_1 (fun r g_3 => ∃ r_4 : Option Nat, r = some (va_rf r_4) ∧ ∃ a_5 : Nat, r_4 = some a_5 ∧ zIs g_3 6 a_5 ∧ ∃ (fs_6 : List Value) (a_7 : Nat), zGo g_3 6 a_5 = some fs_6 ∧ fs_6[0]? = some (.ref a_7) ∧ (∃ k : Nat, k < 256 ∧ a_7 = zN X k) ∧ ∃ k_8 : Nat, k_8 < 256 ∧ a_7 = zN X k_8 ∧ ∀ v_9 : Int32, v_9 = vb_c k_8 → (¬ v_9 = 2 → GW X E 6 g_3 42 [(1, .int (x1 + 0)), (2, .ref a2), (4, .ref a4)] []) ∧ (v_9 = 2 → GW X E 6 g_3 42 [(1, .int (x1 + 1)), (2, .ref a2), (4, .ref a4)] [])) KX)) KX) : GW X E 6 g 42 [(1, .int x1), (2, .ref a2), (4, .ref a4)] [] := by
  intro H locs ls hR hS hl
  refine lv_aload C.x C.b dX1_openMany_42 (lv_at hl 2 rfl) ?_
  refine z_callF C hR hS hl (n := 0) (C1 := RJ22) (T := TJ22) (N := 4) (ci := 11) (y := yJ22_hasNext) (bytes := cJ22_hasNext) (maxL := 1) (rt := (some .boolean)) (As := []) (rest := []) (x := ⟨"java/util/Iterator", "hasNext", "()Z"⟩) h.1 rfl (lw_F q353 q357 q359 q101 q361) ⟨C.ok.2.1 _ q355, C.ok.2.1 _ q354, C.ok.2.1 _ q360, C.ok.2.1 _ q358, C.ok.2.1 _ q356⟩ hdF_J22_hasNext (by decide) rfl rfl (Nat.le_of_ble_eq_true rfl) dX1_openMany_44 h.2 (fun r g_1 hk_ => ?_) (fun x g1 h => z_out C hQ h)
  clear h; obtain ⟨v_2, rfl, zb_, h⟩ := hk_
  show GW X E 6 g_1 49 [(1, .int x1), (2, .ref a2), (4, .ref a4)] [.int v_2]
  intro H locs ls hR hS hl
  obtain ⟨h1, h2⟩ := h
  refine lv_if_eq (tgt := 90) C.x C.b dX1_openMany_49 (by decide) (fun c => ?_) (fun c => ?_)
  · have h := h1 c; clear h1 h2
    refine lv_goto (tgt := 12) C.x C.b dX1_openMany_90 (by decide) ?_
    exact h H locs ls hR hS (lv_sub hl [0, 1] rfl)
  · have h := h2 c; clear h1 h2
    refine lv_aload C.x C.b dX1_openMany_52 (lv_at hl 2 rfl) ?_
    refine z_callF C hR hS hl (n := 0) (C1 := RJ22) (T := TJ22) (N := 4) (ci := 11) (y := yJ22_next) (bytes := cJ22_next) (maxL := 3) (rt := (some (.object "java/lang/Object"))) (As := []) (rest := []) (x := ⟨"java/util/Iterator", "next", "()Ljava/lang/Object;"⟩) h.1 rfl (lw_F q363 q366 q368 q101 q370) ⟨C.ok.2.1 _ q365, C.ok.2.1 _ q364, C.ok.2.1 _ q369, C.ok.2.1 _ q367, C.ok.2.1 _ q356⟩ hdF_J22_next (by decide) rfl rfl (Nat.le_of_ble_eq_true rfl) dX1_openMany_54 h.2 (fun r g_3 hk_ => ?_) (fun x g1 h => z_out C hQ h)
    clear h; obtain ⟨r_4, rfl, h⟩ := hk_
    show GW X E 6 g_3 59 [(1, .int x1), (2, .ref a2), (4, .ref a4)] [va_rf r_4]
    intro H locs ls hR hS hl
    obtain ⟨a_5, e_, h⟩ := h; subst e_
    have hl : lv_has ls 6 [(1, .int x1), (2, .ref a2), (4, .ref a4)] := by assumption
    show zV X E H locs (F0 (zm E) 59 ls [.ref a_5])
    refine z_castS C hR (ci := 6) (C1 := RX6) (T := TX6) (N := 2) h.1 rfl q1220 dX1_openMany_59 ?_
    have h := h.2
    refine lv_astore (lv' := [(5, .ref a_5), (1, .int x1), (2, .ref a2), (4, .ref a4)]) C.x C.b dX1_openMany_62 hl (by decide) rfl (fun ls hl => ?_)
    refine lv_iload_n C.x C.b dX1_openMany_64 rfl (lv_at hl 1 rfl) ?_
    refine lv_aload C.x C.b dX1_openMany_65 (lv_at hl 0 rfl) ?_
    obtain ⟨fs_6, a_7, q1, q2, h⟩ := h
    refine z_getN C hR q1 rfl (ci := 6) rfl in_X6 0 (by decide) q1162 (fun _ h => h) q2 dX1_openMany_67 ?_
    obtain ⟨q1, h⟩ := h
    refine z_castI C hR hS q1 q1221 dX1_openMany_70 ?_
    obtain ⟨k_8, q0, q1, h⟩ := h
    rw [q1]
    have h := h _ rfl
    refine z_intValue C hR hS hl (lc := [(5, .ref a_5), (1, .int x1), (2, .ref a2), (4, .ref a4)]) (rest := [.int x1]) q0 q1222 (Nat.le_of_ble_eq_true rfl) dX1_openMany_73 ?_
    generalize vb_c k_8 = v_9 at h ⊢
    show GW X E 6 g_3 76 [(5, .ref a_5), (1, .int x1), (2, .ref a2), (4, .ref a4)] [.int v_9, .int x1]
    intro H locs ls hR hS hl
    refine lv_iconst (v := 2) C.x C.b dX1_openMany_76 (by decide) ?_
    obtain ⟨h1, h2⟩ := h
    refine lv_icmp_ne (tgt := 84) C.x C.b dX1_openMany_77 (by decide) (fun c => ?_) (fun c => ?_)
    · have h := h1 c; clear h1 h2
      refine lv_iconst (v := 0) C.x C.b dX1_openMany_84 (by decide) ?_
      refine lv_iadd C.x C.b dX1_openMany_85 ?_
      refine lv_istore_n (lv' := [(1, .int (x1 + 0)), (5, .ref a_5), (2, .ref a2), (4, .ref a4)]) C.x C.b dX1_openMany_86 rfl hl (by decide) rfl (fun ls hl => ?_)
      refine lv_goto (tgt := 42) C.x C.b dX1_openMany_87 (by decide) ?_
      exact h H locs ls hR hS (lv_sub hl [0, 2, 3] rfl)
    · have h := h2 c; clear h1 h2
      refine lv_iconst (v := 1) C.x C.b dX1_openMany_80 (by decide) ?_
      refine lv_goto (tgt := 85) C.x C.b dX1_openMany_81 (by decide) ?_
      refine lv_iadd C.x C.b dX1_openMany_85 ?_
      refine lv_istore_n (lv' := [(1, .int (x1 + 1)), (5, .ref a_5), (2, .ref a2), (4, .ref a4)]) C.x C.b dX1_openMany_86 rfl hl (by decide) rfl (fun ls hl => ?_)
      refine lv_goto (tgt := 42) C.x C.b dX1_openMany_87 (by decide) ?_
      exact h H locs ls hR hS (lv_sub hl [0, 2, 3] rfl)
set_option maxHeartbeats 4000000 in
theorem mX1_openMany {X : zX} {d : Nat} {g : zG} {K : Option Value → zG → Prop} {KX : String → zG → Prop} (hok : zOk X) (a0 : Nat) (h : ∀ E : zM, zC X (d + 1) E RX1 cX1_openMany 6 (some .int) "openMany" → zQ X E K KX → ∃ (fs_1 : List Value) (a_2 : Nat), zGo g 1 a0 = some fs_1 ∧ fs_1[9]? = some (.ref a_2) ∧ zIs g 0 a_2 ∧ zCal X d yJ2_iterator wJ2_iterator [.ref a_2] g (fun r g_3 => ∃ a_5 : Nat, r = some (.ref a_5) ∧ GW X E 6 g_3 12 [(1, .int 0), (2, .ref a_5)] []) KX) : zCal X (d + 1) yX1_openMany wX1_openMany [.ref a0] g K KX := by
  refine z_enter hok pn_X1 (Nat.le_of_ble_eq_true rfl) (fun E C hQ => ?_)
  have C : zC X (d + 1) E RX1 cX1_openMany 6 (some .int) "openMany" := C
  have h := h E C hQ
  show GW X E 6 g 0 [(0, .ref a0)] []
  intro H locs ls hR hS hl
  refine lv_iconst (v := 0) C.x C.b dX1_openMany_0 (by decide) ?_
  refine lv_istore_n (lv' := [(1, .int 0), (0, .ref a0)]) C.x C.b dX1_openMany_1 rfl hl (by decide) rfl (fun ls hl => ?_)
  refine lv_aload_n C.x C.b dX1_openMany_2 rfl (lv_at hl 1 rfl) ?_
  obtain ⟨fs_1, a_2, q1, q2, h⟩ := h
  refine z_get C hR q1 rfl (ci := 1) rfl in_X1 9 (by decide) q257 (fun _ h => h) q2 dX1_openMany_3 ?_
  refine z_callF C hR hS hl (n := 0) (C1 := RJ2) (T := TJ2) (N := 3) (ci := 0) (y := yJ2_iterator) (bytes := cJ2_iterator) (maxL := 1) (rt := (some (.object "java/util/Iterator"))) (As := []) (rest := []) (x := ⟨"java/util/List", "iterator", "()Ljava/util/Iterator;"⟩) h.1 rfl (lw_F q325 q328 q330 q76 q332) ⟨C.ok.2.1 _ q327, C.ok.2.1 _ q326, C.ok.2.1 _ q331, C.ok.2.1 _ q329, C.ok.2.1 _ q174⟩ hdF_J2_iterator (by decide) rfl rfl (Nat.le_of_ble_eq_true rfl) dX1_openMany_6 h.2 (fun r g_3 hk_ => ?_) (fun x g1 h => z_out C hQ h)
  clear h; obtain ⟨a_5, rfl, h⟩ := hk_
  show GW X E 6 g_3 11 [(1, .int 0), (0, .ref a0)] [.ref a_5]
  intro H locs ls hR hS hl
  refine lv_astore_n (lv' := [(2, .ref a_5), (1, .int 0), (0, .ref a0)]) C.x C.b dX1_openMany_11 rfl hl (by decide) rfl (fun ls hl => ?_)
  exact h H locs ls hR hS (lv_sub hl [1, 0] rfl)
theorem hdV_X1_openMany : yX1_openMany.cls = RX1 ∧ yX1_openMany.cls ≠ "java/lang/invoke/MethodHandle" ∧ yX1_openMany.cls ≠ "java/lang/invoke/VarHandle" ∧ (parseMethodDescriptor yX1_openMany.desc).map (fun d => d.parameters.length) = some 0 := by decide +kernel
set_option maxHeartbeats 4000000 in
theorem mX1_close {X : zX} {d : Nat} {g : zG} {K : Option Value → zG → Prop} {KX : String → zG → Prop} (hok : zOk X) (a0 : Nat) (h : ∃ (fs_1 : List Value) (v_2 : Int32), zGo g 1 a0 = some fs_1 ∧ fs_1[6]? = some (.int v_2) ∧ zCal X d yX1_allow wX1_allow [.int v_2] g (fun r g_3 => r = none ∧ zIs g_3 1 a0 ∧ zCal X d yX1_openMany wX1_openMany [.ref a0] g_3 (fun r g_4 => ∃ v_5 : Int32, r = some (.int v_5) ∧ ∃ (fs_6 : List Value), zGo g_4 1 a0 = some fs_6 ∧ 6 < fs_6.length ∧ ∀ g_7 : zG, g_7 = zSo g_4 1 a0 (fs_6.set 6 (.int 0)) → zIs g_7 1 a0 ∧ zCal X d yX1_find wX1_find [.ref a0] g_7 (fun r g_8 => r = none ∧ zIs g_8 1 a0 ∧ zCal X d yX1_openMany wX1_openMany [.ref a0] g_8 (fun r g_9 => ∃ v_10 : Int32, r = some (.int v_10) ∧ K (some (.int (v_5 - v_10))) g_9) KX) KX) KX) KX) : zCal X (d + 1) yX1_close wX1_close [.ref a0] g K KX := by
  refine z_enter hok pn_X1 (Nat.le_of_ble_eq_true rfl) (fun E C hQ => ?_)
  have C : zC X (d + 1) E RX1 cX1_close 2 (some .int) "close" := C
  show GW X E 2 g 0 [(0, .ref a0)] []
  intro H locs ls hR hS hl
  refine lv_aload_n C.x C.b dX1_close_0 rfl (lv_at hl 0 rfl) ?_
  obtain ⟨fs_1, v_2, q1, q2, h⟩ := h
  refine z_get C hR q1 rfl (ci := 1) rfl in_X1 6 (by decide) q253 (fun _ h => h) q2 dX1_close_1 ?_
  refine z_callS C hR hS hl (n := 1) (y := yX1_allow) (bytes := cX1_allow) (maxL := 1) (rt := none) (As := [.int v_2]) (rest := []) (lw_S q758 q759 q73 q760) hdS_X1_allow (by decide) rfl rfl (Nat.le_of_ble_eq_true rfl) dX1_close_4 h (fun r g_3 hk_ => ?_) (fun x g1 h => z_out C hQ h)
  clear h; obtain ⟨rfl, h⟩ := hk_
  show GW X E 2 g_3 7 [(0, .ref a0)] []
  intro H locs ls hR hS hl
  refine lv_aload_n C.x C.b dX1_close_7 rfl (lv_at hl 0 rfl) ?_
  refine z_callV C hR hS hl (n := 0) (C1 := RX1) (T := TX1) (N := 12) (ci := 1) (y := yX1_openMany) (bytes := cX1_openMany) (maxL := 6) (rt := (some .int)) (As := []) (rest := []) h.1 rfl (lw_V q1230 q1232 qs20 q73 q1233) hdV_X1_openMany (by decide) rfl rfl (Nat.le_of_ble_eq_true rfl) dX1_close_8 h.2 (fun r g_4 hk_ => ?_) (fun x g1 h => z_out C hQ h)
  clear h; obtain ⟨v_5, rfl, h⟩ := hk_
  show GW X E 2 g_4 11 [(0, .ref a0)] [.int v_5]
  intro H locs ls hR hS hl
  refine lv_istore_n (lv' := [(1, .int v_5), (0, .ref a0)]) C.x C.b dX1_close_11 rfl hl (by decide) rfl (fun ls hl => ?_)
  refine lv_aload_n C.x C.b dX1_close_12 rfl (lv_at hl 1 rfl) ?_
  refine lv_iconst (v := 0) C.x C.b dX1_close_13 (by decide) ?_
  obtain ⟨fs_6, q1, q2, h⟩ := h
  refine z_put C hR hS q1 rfl (ci := 1) rfl in_X1 tyX1 tyX1_ok nmX1 6 (by decide) q253 (fun _ h => h) rfl ⟨rfl, rfl⟩ q2 dX1_close_14 (fun H locs hR hS => ?_)
  have h := h _ rfl
  generalize zSo g_4 1 a0 (fs_6.set 6 (.int 0)) = g_7 at h hR
  refine lv_aload_n C.x C.b dX1_close_17 rfl (lv_at hl 1 rfl) ?_
  refine z_callV C hR hS hl (n := 0) (C1 := RX1) (T := TX1) (N := 12) (ci := 1) (y := yX1_find) (bytes := cX1_find) (maxL := 3) (rt := none) (As := []) (rest := []) h.1 rfl (lw_V q1113 q1115 qs17 q73 q1116) hdV_X1_find (by decide) rfl rfl (Nat.le_of_ble_eq_true rfl) dX1_close_18 h.2 (fun r g_8 hk_ => ?_) (fun x g1 h => z_out C hQ h)
  clear h; obtain ⟨rfl, h⟩ := hk_
  show GW X E 2 g_8 21 [(1, .int v_5), (0, .ref a0)] []
  intro H locs ls hR hS hl
  refine lv_iload_n C.x C.b dX1_close_21 rfl (lv_at hl 0 rfl) ?_
  refine lv_aload_n C.x C.b dX1_close_22 rfl (lv_at hl 1 rfl) ?_
  refine z_callV C hR hS hl (n := 0) (C1 := RX1) (T := TX1) (N := 12) (ci := 1) (y := yX1_openMany) (bytes := cX1_openMany) (maxL := 6) (rt := (some .int)) (As := []) (rest := [.int v_5]) h.1 rfl (lw_V q1230 q1232 qs20 q73 q1233) hdV_X1_openMany (by decide) rfl rfl (Nat.le_of_ble_eq_true rfl) dX1_close_23 h.2 (fun r g_9 hk_ => ?_) (fun x g1 h => z_out C hQ h)
  clear h; obtain ⟨v_10, rfl, h⟩ := hk_
  show GW X E 2 g_9 26 [(1, .int v_5), (0, .ref a0)] [.int v_10, .int v_5]
  intro H locs ls hR hS hl
  refine lv_isub C.x C.b dX1_close_26 ?_
  exact z_iret C hQ dX1_close_27 h H locs ls hR hS hl
set_option maxHeartbeats 4000000 in
theorem mX1_put {X : zX} {d : Nat} {g : zG} {K : Option Value → zG → Prop} {KX : String → zG → Prop} (hok : zOk X) (a0 : Nat) (a1 : Nat) (h : ∃ (fs_1 : List Value) (a_2 : Nat), zGo g 1 a0 = some fs_1 ∧ fs_1[8]? = some (.ref a_2) ∧ zIs g 0 a_2 ∧ zCal X d yJ2_size wJ2_size [.ref a_2] g (fun r g_3 => ∃ v_4 : Int32, r = some (.int v_4) ∧ (8 ≤ v_4 → zCal X d yX1_allow wX1_allow [.int 0] g_3 (fun r g_5 => r = none ∧ False) KX) ∧ (¬ 8 ≤ v_4 → zCal X d yX1_allow wX1_allow [.int 1] g_3 (fun r g_6 => r = none ∧ ∃ (fs_7 : List Value) (a_8 : Nat), zGo g_6 1 a0 = some fs_7 ∧ fs_7[8]? = some (.ref a_8) ∧ zIs g_6 0 a_8 ∧ zCal X d yJ2_add wJ2_add [.ref a_8, .ref a1] g_6 (fun r g_9 => ∃ v_10 : Int32, r = some (.int v_10) ∧ zbo v_10 ∧ ∃ (fs_11 : List Value) (a_12 : Nat), zGo g_9 1 a0 = some fs_11 ∧ fs_11[8]? = some (.ref a_12) ∧ zIs g_9 0 a_12 ∧ zCal X d yJ2_size wJ2_size [.ref a_12] g_9 (fun r g_13 => ∃ v_14 : Int32, r = some (.int v_14) ∧ K (some (.int v_14)) g_13) KX) KX) KX)) KX) : zCal X (d + 1) yX1_put wX1_put [.ref a0, .ref a1] g K KX := by
  refine z_enter hok pn_X1 (Nat.le_of_ble_eq_true rfl) (fun E C hQ => ?_)
  have C : zC X (d + 1) E RX1 cX1_put 2 (some .int) "put" := C
  show GW X E 2 g 0 [(0, .ref a0), (1, .ref a1)] []
  intro H locs ls hR hS hl
  refine lv_aload_n C.x C.b dX1_put_0 rfl (lv_at hl 0 rfl) ?_
  obtain ⟨fs_1, a_2, q1, q2, h⟩ := h
  refine z_get C hR q1 rfl (ci := 1) rfl in_X1 8 (by decide) q256 (fun _ h => h) q2 dX1_put_1 ?_
  refine z_callF C hR hS hl (n := 0) (C1 := RJ2) (T := TJ2) (N := 3) (ci := 0) (y := yJ2_size) (bytes := cJ2_size) (maxL := 1) (rt := (some .int)) (As := []) (rest := []) (x := ⟨"java/util/List", "size", "()I"⟩) h.1 rfl (lw_F q291 q294 q296 q76 q298) ⟨C.ok.2.1 _ q293, C.ok.2.1 _ q292, C.ok.2.1 _ q297, C.ok.2.1 _ q295, C.ok.2.1 _ q174⟩ hdF_J2_size (by decide) rfl rfl (Nat.le_of_ble_eq_true rfl) dX1_put_4 h.2 (fun r g_3 hk_ => ?_) (fun x g1 h => z_out C hQ h)
  clear h; obtain ⟨v_4, rfl, h⟩ := hk_
  show GW X E 2 g_3 9 [(0, .ref a0), (1, .ref a1)] [.int v_4]
  intro H locs ls hR hS hl
  refine lv_bipush (v := 8) C.x C.b dX1_put_9 (by decide) ?_
  obtain ⟨h1, h2⟩ := h
  refine lv_icmp_ge (tgt := 18) C.x C.b dX1_put_11 (by decide) (fun c => ?_) (fun c => ?_)
  · have h := h1 c; clear h1 h2
    refine lv_iconst (v := 0) C.x C.b dX1_put_18 (by decide) ?_
    refine z_callS C hR hS hl (n := 1) (y := yX1_allow) (bytes := cX1_allow) (maxL := 1) (rt := none) (As := [.int 0]) (rest := []) (lw_S q758 q759 q73 q760) hdS_X1_allow (by decide) rfl rfl (Nat.le_of_ble_eq_true rfl) dX1_put_19 h (fun r g_5 hk_ => ?_) (fun x g1 h => z_out C hQ h)
    exact hk_.2.elim
  · have h := h2 c; clear h1 h2
    refine lv_iconst (v := 1) C.x C.b dX1_put_14 (by decide) ?_
    refine lv_goto (tgt := 19) C.x C.b dX1_put_15 (by decide) ?_
    refine z_callS C hR hS hl (n := 1) (y := yX1_allow) (bytes := cX1_allow) (maxL := 1) (rt := none) (As := [.int 1]) (rest := []) (lw_S q758 q759 q73 q760) hdS_X1_allow (by decide) rfl rfl (Nat.le_of_ble_eq_true rfl) dX1_put_19 h (fun r g_6 hk_ => ?_) (fun x g1 h => z_out C hQ h)
    clear h; obtain ⟨rfl, h⟩ := hk_
    show GW X E 2 g_6 22 [(0, .ref a0), (1, .ref a1)] []
    intro H locs ls hR hS hl
    refine lv_aload_n C.x C.b dX1_put_22 rfl (lv_at hl 0 rfl) ?_
    obtain ⟨fs_7, a_8, q1, q2, h⟩ := h
    refine z_get C hR q1 rfl (ci := 1) rfl in_X1 8 (by decide) q256 (fun _ h => h) q2 dX1_put_23 ?_
    refine lv_aload_n C.x C.b dX1_put_26 rfl (lv_at hl 1 rfl) ?_
    refine z_callF C hR hS hl (n := 1) (C1 := RJ2) (T := TJ2) (N := 3) (ci := 0) (y := yJ2_add) (bytes := cJ2_add) (maxL := 2) (rt := (some .boolean)) (As := [.ref a1]) (rest := []) (x := ⟨"java/util/List", "add", "(Ljava/lang/Object;)Z"⟩) h.1 rfl (lw_F q171 q175 q177 q76 q179) ⟨C.ok.2.1 _ q173, C.ok.2.1 _ q172, C.ok.2.1 _ q178, C.ok.2.1 _ q176, C.ok.2.1 _ q174⟩ hdF_J2_add (by decide) rfl rfl (Nat.le_of_ble_eq_true rfl) dX1_put_27 h.2 (fun r g_9 hk_ => ?_) (fun x g1 h => z_out C hQ h)
    clear h; obtain ⟨v_10, rfl, zb_, h⟩ := hk_
    show GW X E 2 g_9 32 [(0, .ref a0), (1, .ref a1)] [.int v_10]
    intro H locs ls hR hS hl
    refine lv_pop C.x C.b dX1_put_32 rfl ?_
    refine lv_aload_n C.x C.b dX1_put_33 rfl (lv_at hl 0 rfl) ?_
    obtain ⟨fs_11, a_12, q1, q2, h⟩ := h
    refine z_get C hR q1 rfl (ci := 1) rfl in_X1 8 (by decide) q256 (fun _ h => h) q2 dX1_put_34 ?_
    refine z_callF C hR hS hl (n := 0) (C1 := RJ2) (T := TJ2) (N := 3) (ci := 0) (y := yJ2_size) (bytes := cJ2_size) (maxL := 1) (rt := (some .int)) (As := []) (rest := []) (x := ⟨"java/util/List", "size", "()I"⟩) h.1 rfl (lw_F q291 q294 q296 q76 q298) ⟨C.ok.2.1 _ q293, C.ok.2.1 _ q292, C.ok.2.1 _ q297, C.ok.2.1 _ q295, C.ok.2.1 _ q174⟩ hdF_J2_size (by decide) rfl rfl (Nat.le_of_ble_eq_true rfl) dX1_put_37 h.2 (fun r g_13 hk_ => ?_) (fun x g1 h => z_out C hQ h)
    clear h; obtain ⟨v_14, rfl, h⟩ := hk_
    show GW X E 2 g_13 42 [(0, .ref a0), (1, .ref a1)] [.int v_14]
    intro H locs ls hR hS hl
    exact z_iret C hQ dX1_put_42 h H locs ls hR hS hl
theorem hdS_X7_init : yX7_init.cls ≠ "java/lang/invoke/MethodHandle" ∧ yX7_init.cls ≠ "java/lang/invoke/VarHandle" ∧ (parseMethodDescriptor yX7_init.desc).map (fun d => d.parameters.length) = some 5 := by decide +kernel
theorem hdV_X1_put : yX1_put.cls = RX1 ∧ yX1_put.cls ≠ "java/lang/invoke/MethodHandle" ∧ yX1_put.cls ≠ "java/lang/invoke/VarHandle" ∧ (parseMethodDescriptor yX1_put.desc).map (fun d => d.parameters.length) = some 1 := by decide +kernel
set_option maxHeartbeats 4000000 in
theorem mX1_kindIs {X : zX} {d : Nat} {g : zG} {K : Option Value → zG → Prop} {KX : String → zG → Prop} (hok : zOk X) (a0 : Nat) (x1 : Int32) (h : zCal X d yX1_isIn wX1_isIn [.int x1, .int 0, .int 7] g (fun r g_1 => ∃ v_2 : Int32, r = some (.int v_2) ∧ zbo v_2 ∧ zCal X d yX1_check wX1_check [.int v_2] g_1 (fun r g_3 => r = none ∧ ∃ k_6 : Nat, zkc k_6 = 7 ∧ zGz g_3 + 1 + 7 ≤ zz X ∧ ∀ a_4 : Nat, zFr g_3 a_4 → ∀ g_5 : zG, g_5 = zSz (zSo g_3 k_6 a_4 [.null, .int 0, .int 0, .null, .null, .int 0, .int 0]) (zGz g_3 + 1 + 7) → zCal X d yX7_init wX7_init [.ref a_4, .ref (zE X 0), .int x1, .int 0, .null, .null] g_5 (fun r g_7 => r = none ∧ zIs g_7 1 a0 ∧ zCal X d yX1_put wX1_put [.ref a0, .ref a_4] g_7 (fun r g_8 => ∃ v_9 : Int32, r = some (.int v_9) ∧ K (some (.int v_9)) g_8) KX) KX) KX) KX) : zCal X (d + 1) yX1_kindIs wX1_kindIs [.ref a0, .int x1] g K KX := by
  refine z_enter hok pn_X1 (Nat.le_of_ble_eq_true rfl) (fun E C hQ => ?_)
  have C : zC X (d + 1) E RX1 cX1_kindIs 2 (some .int) "kindIs" := C
  show GW X E 2 g 0 [(0, .ref a0), (1, .int x1)] []
  intro H locs ls hR hS hl
  refine lv_iload_n C.x C.b dX1_kindIs_0 rfl (lv_at hl 1 rfl) ?_
  refine lv_iconst (v := 0) C.x C.b dX1_kindIs_1 (by decide) ?_
  refine lv_bipush (v := 7) C.x C.b dX1_kindIs_2 (by decide) ?_
  refine z_callS C hR hS hl (n := 3) (y := yX1_isIn) (bytes := cX1_isIn) (maxL := 3) (rt := (some .boolean)) (As := [.int x1, .int 0, .int 7]) (rest := []) (lw_S q701 q702 q73 q703) hdS_X1_isIn (by decide) rfl rfl (Nat.le_of_ble_eq_true rfl) dX1_kindIs_4 h (fun r g_1 hk_ => ?_) (fun x g1 h => z_out C hQ h)
  clear h; obtain ⟨v_2, rfl, zb_, h⟩ := hk_
  show GW X E 2 g_1 7 [(0, .ref a0), (1, .int x1)] [.int v_2]
  intro H locs ls hR hS hl
  refine z_callS C hR hS hl (n := 1) (y := yX1_check) (bytes := cX1_check) (maxL := 1) (rt := none) (As := [.int v_2]) (rest := []) (lw_S q720 q721 q73 q722) hdS_X1_check (by decide) rfl rfl (Nat.le_of_ble_eq_true rfl) dX1_kindIs_7 h (fun r g_3 hk_ => ?_) (fun x g1 h => z_out C hQ h)
  clear h; obtain ⟨rfl, h⟩ := hk_
  show GW X E 2 g_3 10 [(0, .ref a0), (1, .int x1)] []
  intro H locs ls hR hS hl
  refine lv_aload_n C.x C.b dX1_kindIs_10 rfl (lv_at hl 0 rfl) ?_
  obtain ⟨k_6, q0, q1, h⟩ := h
  refine z_new C hR hS k_6 q0 (ci := 7) rfl in_X7 tyX7 tyX7_ok q376 q1241 q106 (fs := [.null, .int 0, .int 0, .null, .null, .int 0, .int 0]) zdf_X7 q1 dX1_kindIs_11 (fun a_4 hf H hR hS => ?_)
  have h := h a_4 hf _ rfl
  generalize zSz (zSo g_3 k_6 a_4 [.null, .int 0, .int 0, .null, .null, .int 0, .int 0]) (zGz g_3 + 1 + 7) = g_5 at h hR
  refine lv_dup C.x C.b dX1_kindIs_14 rfl ?_
  refine z_getsE C hS 0 (by decide) q1242 dX1_kindIs_15 ?_
  refine lv_iload_n C.x C.b dX1_kindIs_18 rfl (lv_at hl 1 rfl) ?_
  refine lv_iconst (v := 0) C.x C.b dX1_kindIs_19 (by decide) ?_
  refine lv_null C.x C.b dX1_kindIs_20 ?_
  refine lv_null C.x C.b dX1_kindIs_21 ?_
  refine z_callI C hR hS hl (n := 5) (y := yX7_init) (bytes := cX7_init) (maxL := 6) (As := [.ref (zE X 0), .int x1, .int 0, .null, .null]) (rest := [.ref a_4, .ref a0]) (lw_meth q1246) q106 q1244 q1245 rfl hdS_X7_init (by decide) rfl rfl (Nat.le_of_ble_eq_true rfl) dX1_kindIs_22 h (fun r g_7 hk_ => ?_) (fun x g1 h => z_out C hQ h)
  clear h; obtain ⟨rfl, h⟩ := hk_
  show GW X E 2 g_7 25 [(0, .ref a0), (1, .int x1)] [.ref a_4, .ref a0]
  intro H locs ls hR hS hl
  refine z_callV C hR hS hl (n := 1) (C1 := RX1) (T := TX1) (N := 12) (ci := 1) (y := yX1_put) (bytes := cX1_put) (maxL := 2) (rt := (some .int)) (As := [.ref a_4]) (rest := []) h.1 rfl (lw_V q1278 q1280 qs21 q73 q1281) hdV_X1_put (by decide) rfl rfl (Nat.le_of_ble_eq_true rfl) dX1_kindIs_25 h.2 (fun r g_8 hk_ => ?_) (fun x g1 h => z_out C hQ h)
  clear h; obtain ⟨v_9, rfl, h⟩ := hk_
  show GW X E 2 g_8 28 [(0, .ref a0), (1, .int x1)] [.int v_9]
  intro H locs ls hR hS hl
  exact z_iret C hQ dX1_kindIs_28 h H locs ls hR hS hl
set_option maxHeartbeats 4000000 in
theorem mX1_valueIs {X : zX} {d : Nat} {g : zG} {K : Option Value → zG → Prop} {KX : String → zG → Prop} (hok : zOk X) (a0 : Nat) (x1 : Int32) (x2 : Int32) (h : zCal X d yX1_isIn wX1_isIn [.int x1, .int 0, .int 2] g (fun r g_1 => ∃ v_2 : Int32, r = some (.int v_2) ∧ zbo v_2 ∧ (v_2 = 0 → zCal X d yX1_check wX1_check [.int 0] g_1 (fun r g_3 => r = none ∧ False) KX) ∧ (¬ v_2 = 0 → zCal X d yX1_isIn wX1_isIn [.int x2, .int (-1000), .int 1000] g_1 (fun r g_4 => ∃ v_5 : Int32, r = some (.int v_5) ∧ zbo v_5 ∧ (v_5 = 0 → zCal X d yX1_check wX1_check [.int 0] g_4 (fun r g_6 => r = none ∧ False) KX) ∧ (¬ v_5 = 0 → zCal X d yX1_check wX1_check [.int 1] g_4 (fun r g_7 => r = none ∧ ∃ k_10 : Nat, zkc k_10 = 7 ∧ zGz g_7 + 1 + 7 ≤ zz X ∧ ∀ a_8 : Nat, zFr g_7 a_8 → ∀ g_9 : zG, g_9 = zSz (zSo g_7 k_10 a_8 [.null, .int 0, .int 0, .null, .null, .int 0, .int 0]) (zGz g_7 + 1 + 7) → zCal X d yX7_init wX7_init [.ref a_8, .ref (zE X 1), .int x1, .int x2, .null, .null] g_9 (fun r g_11 => r = none ∧ zIs g_11 1 a0 ∧ zCal X d yX1_put wX1_put [.ref a0, .ref a_8] g_11 (fun r g_12 => ∃ v_13 : Int32, r = some (.int v_13) ∧ K (some (.int v_13)) g_12) KX) KX) KX)) KX)) KX) : zCal X (d + 1) yX1_valueIs wX1_valueIs [.ref a0, .int x1, .int x2] g K KX := by
  refine z_enter hok pn_X1 (Nat.le_of_ble_eq_true rfl) (fun E C hQ => ?_)
  have C : zC X (d + 1) E RX1 cX1_valueIs 3 (some .int) "valueIs" := C
  show GW X E 3 g 0 [(0, .ref a0), (1, .int x1), (2, .int x2)] []
  intro H locs ls hR hS hl
  refine lv_iload_n C.x C.b dX1_valueIs_0 rfl (lv_at hl 1 rfl) ?_
  refine lv_iconst (v := 0) C.x C.b dX1_valueIs_1 (by decide) ?_
  refine lv_iconst (v := 2) C.x C.b dX1_valueIs_2 (by decide) ?_
  refine z_callS C hR hS hl (n := 3) (y := yX1_isIn) (bytes := cX1_isIn) (maxL := 3) (rt := (some .boolean)) (As := [.int x1, .int 0, .int 2]) (rest := []) (lw_S q701 q702 q73 q703) hdS_X1_isIn (by decide) rfl rfl (Nat.le_of_ble_eq_true rfl) dX1_valueIs_3 h (fun r g_1 hk_ => ?_) (fun x g1 h => z_out C hQ h)
  clear h; obtain ⟨v_2, rfl, zb_, h⟩ := hk_
  show GW X E 3 g_1 6 [(0, .ref a0), (1, .int x1), (2, .int x2)] [.int v_2]
  intro H locs ls hR hS hl
  obtain ⟨h1, h2⟩ := h
  refine lv_if_eq (tgt := 26) C.x C.b dX1_valueIs_6 (by decide) (fun c => ?_) (fun c => ?_)
  · have h := h1 c; clear h1 h2
    refine lv_iconst (v := 0) C.x C.b dX1_valueIs_26 (by decide) ?_
    refine z_callS C hR hS hl (n := 1) (y := yX1_check) (bytes := cX1_check) (maxL := 1) (rt := none) (As := [.int 0]) (rest := []) (lw_S q720 q721 q73 q722) hdS_X1_check (by decide) rfl rfl (Nat.le_of_ble_eq_true rfl) dX1_valueIs_27 h (fun r g_3 hk_ => ?_) (fun x g1 h => z_out C hQ h)
    exact hk_.2.elim
  · have h := h2 c; clear h1 h2
    refine lv_iload_n C.x C.b dX1_valueIs_9 rfl (lv_at hl 2 rfl) ?_
    refine lv_sipush (v := (-1000)) C.x C.b dX1_valueIs_10 (by decide) ?_
    refine lv_sipush (v := 1000) C.x C.b dX1_valueIs_13 (by decide) ?_
    refine z_callS C hR hS hl (n := 3) (y := yX1_isIn) (bytes := cX1_isIn) (maxL := 3) (rt := (some .boolean)) (As := [.int x2, .int (-1000), .int 1000]) (rest := []) (lw_S q701 q702 q73 q703) hdS_X1_isIn (by decide) rfl rfl (Nat.le_of_ble_eq_true rfl) dX1_valueIs_16 h (fun r g_4 hk_ => ?_) (fun x g1 h => z_out C hQ h)
    clear h; obtain ⟨v_5, rfl, zb_, h⟩ := hk_
    show GW X E 3 g_4 19 [(0, .ref a0), (1, .int x1), (2, .int x2)] [.int v_5]
    intro H locs ls hR hS hl
    obtain ⟨h1, h2⟩ := h
    refine lv_if_eq (tgt := 26) C.x C.b dX1_valueIs_19 (by decide) (fun c => ?_) (fun c => ?_)
    · have h := h1 c; clear h1 h2
      refine lv_iconst (v := 0) C.x C.b dX1_valueIs_26 (by decide) ?_
      refine z_callS C hR hS hl (n := 1) (y := yX1_check) (bytes := cX1_check) (maxL := 1) (rt := none) (As := [.int 0]) (rest := []) (lw_S q720 q721 q73 q722) hdS_X1_check (by decide) rfl rfl (Nat.le_of_ble_eq_true rfl) dX1_valueIs_27 h (fun r g_6 hk_ => ?_) (fun x g1 h => z_out C hQ h)
      exact hk_.2.elim
    · have h := h2 c; clear h1 h2
      refine lv_iconst (v := 1) C.x C.b dX1_valueIs_22 (by decide) ?_
      refine lv_goto (tgt := 27) C.x C.b dX1_valueIs_23 (by decide) ?_
      refine z_callS C hR hS hl (n := 1) (y := yX1_check) (bytes := cX1_check) (maxL := 1) (rt := none) (As := [.int 1]) (rest := []) (lw_S q720 q721 q73 q722) hdS_X1_check (by decide) rfl rfl (Nat.le_of_ble_eq_true rfl) dX1_valueIs_27 h (fun r g_7 hk_ => ?_) (fun x g1 h => z_out C hQ h)
      clear h; obtain ⟨rfl, h⟩ := hk_
      show GW X E 3 g_7 30 [(0, .ref a0), (1, .int x1), (2, .int x2)] []
      intro H locs ls hR hS hl
      refine lv_aload_n C.x C.b dX1_valueIs_30 rfl (lv_at hl 0 rfl) ?_
      obtain ⟨k_10, q0, q1, h⟩ := h
      refine z_new C hR hS k_10 q0 (ci := 7) rfl in_X7 tyX7 tyX7_ok q376 q1241 q106 (fs := [.null, .int 0, .int 0, .null, .null, .int 0, .int 0]) zdf_X7 q1 dX1_valueIs_31 (fun a_8 hf H hR hS => ?_)
      have h := h a_8 hf _ rfl
      generalize zSz (zSo g_7 k_10 a_8 [.null, .int 0, .int 0, .null, .null, .int 0, .int 0]) (zGz g_7 + 1 + 7) = g_9 at h hR
      refine lv_dup C.x C.b dX1_valueIs_34 rfl ?_
      refine z_getsE C hS 1 (by decide) q1289 dX1_valueIs_35 ?_
      refine lv_iload_n C.x C.b dX1_valueIs_38 rfl (lv_at hl 1 rfl) ?_
      refine lv_iload_n C.x C.b dX1_valueIs_39 rfl (lv_at hl 2 rfl) ?_
      refine lv_null C.x C.b dX1_valueIs_40 ?_
      refine lv_null C.x C.b dX1_valueIs_41 ?_
      refine z_callI C hR hS hl (n := 5) (y := yX7_init) (bytes := cX7_init) (maxL := 6) (As := [.ref (zE X 1), .int x1, .int x2, .null, .null]) (rest := [.ref a_8, .ref a0]) (lw_meth q1246) q106 q1244 q1245 rfl hdS_X7_init (by decide) rfl rfl (Nat.le_of_ble_eq_true rfl) dX1_valueIs_42 h (fun r g_11 hk_ => ?_) (fun x g1 h => z_out C hQ h)
      clear h; obtain ⟨rfl, h⟩ := hk_
      show GW X E 3 g_11 45 [(0, .ref a0), (1, .int x1), (2, .int x2)] [.ref a_8, .ref a0]
      intro H locs ls hR hS hl
      refine z_callV C hR hS hl (n := 1) (C1 := RX1) (T := TX1) (N := 12) (ci := 1) (y := yX1_put) (bytes := cX1_put) (maxL := 2) (rt := (some .int)) (As := [.ref a_8]) (rest := []) h.1 rfl (lw_V q1278 q1280 qs21 q73 q1281) hdV_X1_put (by decide) rfl rfl (Nat.le_of_ble_eq_true rfl) dX1_valueIs_45 h.2 (fun r g_12 hk_ => ?_) (fun x g1 h => z_out C hQ h)
      clear h; obtain ⟨v_13, rfl, h⟩ := hk_
      show GW X E 3 g_12 48 [(0, .ref a0), (1, .int x1), (2, .int x2)] [.int v_13]
      intro H locs ls hR hS hl
      exact z_iret C hQ dX1_valueIs_48 h H locs ls hR hS hl
set_option maxHeartbeats 4000000 in
theorem bX1_join_18 {X : zX} {d : Nat} {E : zM} {K : Option Value → zG → Prop} {KX : String → zG → Prop} (C : zC X (d + 1) E RX1 cX1_join 9 (some .int) "join") (hQ : zQ X E K KX) (g : zG) (a0 : Nat) (a1 : Nat) (x2 : Int32) (x3 : Int32) (x4 : Int32) (t0 : Int32) (h : zCal X d yX1_allow wX1_allow [.int t0] g (fun r g_1 => r = none ∧ ∃ (fs_2 : List Value) (a_3 : Nat), zGo g_1 1 a0 = some fs_2 ∧ fs_2[8]? = some (.ref a_3) ∧ ∃ (fs_4 : List Value) (a_5 : Nat), zGo g_1 1 a0 = some fs_4 ∧ fs_4[8]? = some (.ref a_5) ∧ zIs g_1 0 a_5 ∧ zCal X d yJ2_size wJ2_size [.ref a_5] g_1 (fun r g_6 => ∃ v_7 : Int32, r = some (.int v_7) ∧ zIs g_6 0 a_3 ∧ zCal X d yJ2_get wJ2_get [.ref a_3, .int (v_7 - 1)] g_6 (fun r g_8 => ∃ r_9 : Option Nat, r = some (va_rf r_9) ∧ ∃ a_10 : Nat, r_9 = some a_10 ∧ zIs g_8 7 a_10 ∧ (¬ x2 = 1 → ∃ (fs_11 : List Value) (a_12 : Nat), zGo g_8 1 a0 = some fs_11 ∧ fs_11[8]? = some (.ref a_12) ∧ ∃ (fs_13 : List Value) (a_14 : Nat), zGo g_8 1 a0 = some fs_13 ∧ fs_13[8]? = some (.ref a_14) ∧ zIs g_8 0 a_14 ∧ zCal X d yJ2_size wJ2_size [.ref a_14] g_8 (fun r g_15 => ∃ v_16 : Int32, r = some (.int v_16) ∧ zIs g_15 0 a_12 ∧ zCal X d yJ2_get wJ2_get [.ref a_12, .int (v_16 - 2)] g_15 (fun r g_17 => ∃ r_18 : Option Nat, r = some (va_rf r_18) ∧ ∃ a_19 : Nat, r_18 = some a_19 ∧ zIs g_17 7 a_19 ∧ ∃ k_22 : Nat, zkc k_22 = 7 ∧ zGz g_17 + 1 + 7 ≤ zz X ∧ ∀ a_20 : Nat, zFr g_17 a_20 → ∀ g_21 : zG, g_21 = zSz (zSo g_17 k_22 a_20 [.null, .int 0, .int 0, .null, .null, .int 0, .int 0]) (zGz g_17 + 1 + 7) → (¬ x2 = 1 → zCal X d yX7_init wX7_init [.ref a_20, .ref a1, .int x3, .int x4, .ref a_19, .ref a_10] g_21 (fun r g_23 => r = none ∧ ∃ (k_25 : Nat) (fs_24 : List Value) (v_26 : Int32), zkc k_25 = 7 ∧ zGo g_23 k_25 a_20 = some fs_24 ∧ fs_24[5]? = some (.int v_26) ∧ (24 < v_26 → zCal X d yX1_allow wX1_allow [.int 0] g_23 (fun r g_27 => r = none ∧ False) KX) ∧ (¬ 24 < v_26 → zCal X d yX1_allow wX1_allow [.int 1] g_23 (fun r g_28 => r = none ∧ GW X E 9 g_28 128 [(0, .ref a0), (2, .int x2), (7, .ref a_20), (8, .int 0)] []) KX)) KX) ∧ (x2 = 1 → zCal X d yX7_init wX7_init [.ref a_20, .ref a1, .int x3, .int x4, .ref a_19, .null] g_21 (fun r g_29 => r = none ∧ ∃ (k_31 : Nat) (fs_30 : List Value) (v_32 : Int32), zkc k_31 = 7 ∧ zGo g_29 k_31 a_20 = some fs_30 ∧ fs_30[5]? = some (.int v_32) ∧ (24 < v_32 → zCal X d yX1_allow wX1_allow [.int 0] g_29 (fun r g_33 => r = none ∧ False) KX) ∧ (¬ 24 < v_32 → zCal X d yX1_allow wX1_allow [.int 1] g_29 (fun r g_34 => r = none ∧ GW X E 9 g_34 128 [(0, .ref a0), (2, .int x2), (7, .ref a_20), (8, .int 0)] []) KX)) KX)) KX) KX) ∧ (x2 = 1 → ∃ k_37 : Nat, zkc k_37 = 7 ∧ zGz g_8 + 1 + 7 ≤ zz X ∧ ∀ a_35 : Nat, zFr g_8 a_35 → ∀ g_36 : zG, g_36 = zSz (zSo g_8 k_37 a_35 [.null, .int 0, .int 0, .null, .null, .int 0, .int 0]) (zGz g_8 + 1 + 7) → (¬ x2 = 1 → zCal X d yX7_init wX7_init [.ref a_35, .ref a1, .int x3, .int x4, .ref a_10, .ref a_10] g_36 (fun r g_38 => r = none ∧ ∃ (k_40 : Nat) (fs_39 : List Value) (v_41 : Int32), zkc k_40 = 7 ∧ zGo g_38 k_40 a_35 = some fs_39 ∧ fs_39[5]? = some (.int v_41) ∧ (24 < v_41 → zCal X d yX1_allow wX1_allow [.int 0] g_38 (fun r g_42 => r = none ∧ False) KX) ∧ (¬ 24 < v_41 → zCal X d yX1_allow wX1_allow [.int 1] g_38 (fun r g_43 => r = none ∧ GW X E 9 g_43 128 [(0, .ref a0), (2, .int x2), (7, .ref a_35), (8, .int 0)] []) KX)) KX) ∧ (x2 = 1 → zCal X d yX7_init wX7_init [.ref a_35, .ref a1, .int x3, .int x4, .ref a_10, .null] g_36 (fun r g_44 => r = none ∧ ∃ (k_46 : Nat) (fs_45 : List Value) (v_47 : Int32), zkc k_46 = 7 ∧ zGo g_44 k_46 a_35 = some fs_45 ∧ fs_45[5]? = some (.int v_47) ∧ (24 < v_47 → zCal X d yX1_allow wX1_allow [.int 0] g_44 (fun r g_48 => r = none ∧ False) KX) ∧ (¬ 24 < v_47 → zCal X d yX1_allow wX1_allow [.int 1] g_44 (fun r g_49 => r = none ∧ GW X E 9 g_49 128 [(0, .ref a0), (2, .int x2), (7, .ref a_35), (8, .int 0)] []) KX)) KX))) KX) KX) KX) : GW X E 9 g 18 [(0, .ref a0), (1, .ref a1), (2, .int x2), (3, .int x3), (4, .int x4)] [.int t0] := by
  intro H locs ls hR hS hl
  refine z_callS C hR hS hl (n := 1) (y := yX1_allow) (bytes := cX1_allow) (maxL := 1) (rt := none) (As := [.int t0]) (rest := []) (lw_S q758 q759 q73 q760) hdS_X1_allow (by decide) rfl rfl (Nat.le_of_ble_eq_true rfl) dX1_join_18 h (fun r g_1 hk_ => ?_) (fun x g1 h => z_out C hQ h)
  clear h; obtain ⟨rfl, h⟩ := hk_
  show GW X E 9 g_1 21 [(0, .ref a0), (1, .ref a1), (2, .int x2), (3, .int x3), (4, .int x4)] []
  intro H locs ls hR hS hl
  refine lv_aload_n C.x C.b dX1_join_21 rfl (lv_at hl 0 rfl) ?_
  obtain ⟨fs_2, a_3, q1, q2, h⟩ := h
  refine z_get C hR q1 rfl (ci := 1) rfl in_X1 8 (by decide) q256 (fun _ h => h) q2 dX1_join_22 ?_
  refine lv_aload_n C.x C.b dX1_join_25 rfl (lv_at hl 0 rfl) ?_
  obtain ⟨fs_4, a_5, q1, q2, h⟩ := h
  refine z_get C hR q1 rfl (ci := 1) rfl in_X1 8 (by decide) q256 (fun _ h => h) q2 dX1_join_26 ?_
  refine z_callF C hR hS hl (n := 0) (C1 := RJ2) (T := TJ2) (N := 3) (ci := 0) (y := yJ2_size) (bytes := cJ2_size) (maxL := 1) (rt := (some .int)) (As := []) (rest := [.ref a_3]) (x := ⟨"java/util/List", "size", "()I"⟩) h.1 rfl (lw_F q291 q294 q296 q76 q298) ⟨C.ok.2.1 _ q293, C.ok.2.1 _ q292, C.ok.2.1 _ q297, C.ok.2.1 _ q295, C.ok.2.1 _ q174⟩ hdF_J2_size (by decide) rfl rfl (Nat.le_of_ble_eq_true rfl) dX1_join_29 h.2 (fun r g_6 hk_ => ?_) (fun x g1 h => z_out C hQ h)
  clear h; obtain ⟨v_7, rfl, h⟩ := hk_
  show GW X E 9 g_6 34 [(0, .ref a0), (1, .ref a1), (2, .int x2), (3, .int x3), (4, .int x4)] [.int v_7, .ref a_3]
  intro H locs ls hR hS hl
  refine lv_iconst (v := 1) C.x C.b dX1_join_34 (by decide) ?_
  refine lv_isub C.x C.b dX1_join_35 ?_
  refine z_callF C hR hS hl (n := 1) (C1 := RJ2) (T := TJ2) (N := 3) (ci := 0) (y := yJ2_get) (bytes := cJ2_get) (maxL := 2) (rt := (some (.object "java/lang/Object"))) (As := [.int (v_7 - 1)]) (rest := []) (x := ⟨"java/util/List", "get", "(I)Ljava/lang/Object;"⟩) h.1 rfl (lw_F q378 q381 q383 q76 q385) ⟨C.ok.2.1 _ q380, C.ok.2.1 _ q379, C.ok.2.1 _ q384, C.ok.2.1 _ q382, C.ok.2.1 _ q174⟩ hdF_J2_get (by decide) rfl rfl (Nat.le_of_ble_eq_true rfl) dX1_join_36 h.2 (fun r g_8 hk_ => ?_) (fun x g1 h => z_out C hQ h)
  clear h; obtain ⟨r_9, rfl, h⟩ := hk_
  show GW X E 9 g_8 41 [(0, .ref a0), (1, .ref a1), (2, .int x2), (3, .int x3), (4, .int x4)] [va_rf r_9]
  intro H locs ls hR hS hl
  obtain ⟨a_10, e_, h⟩ := h; subst e_
  have hl : lv_has ls 9 [(0, .ref a0), (1, .ref a1), (2, .int x2), (3, .int x3), (4, .int x4)] := by assumption
  show zV X E H locs (F0 (zm E) 41 ls [.ref a_10])
  refine z_castS C hR (ci := 7) (C1 := RX7) (T := TX7) (N := 7) h.1 rfl q376 dX1_join_41 ?_
  have h := h.2
  refine lv_astore (lv' := [(5, .ref a_10), (0, .ref a0), (1, .ref a1), (2, .int x2), (3, .int x3), (4, .int x4)]) C.x C.b dX1_join_44 hl (by decide) rfl (fun ls hl => ?_)
  refine lv_iload_n C.x C.b dX1_join_46 rfl (lv_at hl 3 rfl) ?_
  refine lv_iconst (v := 1) C.x C.b dX1_join_47 (by decide) ?_
  obtain ⟨h1, h2⟩ := h
  refine lv_icmp_ne (tgt := 56) C.x C.b dX1_join_48 (by decide) (fun c => ?_) (fun c => ?_)
  · have h := h1 c; clear h1 h2
    refine lv_aload_n C.x C.b dX1_join_56 rfl (lv_at hl 1 rfl) ?_
    obtain ⟨fs_11, a_12, q1, q2, h⟩ := h
    refine z_get C hR q1 rfl (ci := 1) rfl in_X1 8 (by decide) q256 (fun _ h => h) q2 dX1_join_57 ?_
    refine lv_aload_n C.x C.b dX1_join_60 rfl (lv_at hl 1 rfl) ?_
    obtain ⟨fs_13, a_14, q1, q2, h⟩ := h
    refine z_get C hR q1 rfl (ci := 1) rfl in_X1 8 (by decide) q256 (fun _ h => h) q2 dX1_join_61 ?_
    refine z_callF C hR hS hl (n := 0) (C1 := RJ2) (T := TJ2) (N := 3) (ci := 0) (y := yJ2_size) (bytes := cJ2_size) (maxL := 1) (rt := (some .int)) (As := []) (rest := [.ref a_12]) (x := ⟨"java/util/List", "size", "()I"⟩) h.1 rfl (lw_F q291 q294 q296 q76 q298) ⟨C.ok.2.1 _ q293, C.ok.2.1 _ q292, C.ok.2.1 _ q297, C.ok.2.1 _ q295, C.ok.2.1 _ q174⟩ hdF_J2_size (by decide) rfl rfl (Nat.le_of_ble_eq_true rfl) dX1_join_64 h.2 (fun r g_15 hk_ => ?_) (fun x g1 h => z_out C hQ h)
    clear h; obtain ⟨v_16, rfl, h⟩ := hk_
    show GW X E 9 g_15 69 [(5, .ref a_10), (0, .ref a0), (1, .ref a1), (2, .int x2), (3, .int x3), (4, .int x4)] [.int v_16, .ref a_12]
    intro H locs ls hR hS hl
    refine lv_iconst (v := 2) C.x C.b dX1_join_69 (by decide) ?_
    refine lv_isub C.x C.b dX1_join_70 ?_
    refine z_callF C hR hS hl (n := 1) (C1 := RJ2) (T := TJ2) (N := 3) (ci := 0) (y := yJ2_get) (bytes := cJ2_get) (maxL := 2) (rt := (some (.object "java/lang/Object"))) (As := [.int (v_16 - 2)]) (rest := []) (x := ⟨"java/util/List", "get", "(I)Ljava/lang/Object;"⟩) h.1 rfl (lw_F q378 q381 q383 q76 q385) ⟨C.ok.2.1 _ q380, C.ok.2.1 _ q379, C.ok.2.1 _ q384, C.ok.2.1 _ q382, C.ok.2.1 _ q174⟩ hdF_J2_get (by decide) rfl rfl (Nat.le_of_ble_eq_true rfl) dX1_join_71 h.2 (fun r g_17 hk_ => ?_) (fun x g1 h => z_out C hQ h)
    clear h; obtain ⟨r_18, rfl, h⟩ := hk_
    show GW X E 9 g_17 76 [(5, .ref a_10), (0, .ref a0), (1, .ref a1), (2, .int x2), (3, .int x3), (4, .int x4)] [va_rf r_18]
    intro H locs ls hR hS hl
    obtain ⟨a_19, e_, h⟩ := h; subst e_
    have hl : lv_has ls 9 [(5, .ref a_10), (0, .ref a0), (1, .ref a1), (2, .int x2), (3, .int x3), (4, .int x4)] := by assumption
    show zV X E H locs (F0 (zm E) 76 ls [.ref a_19])
    refine z_castS C hR (ci := 7) (C1 := RX7) (T := TX7) (N := 7) h.1 rfl q376 dX1_join_76 ?_
    have h := h.2
    refine lv_astore (lv' := [(6, .ref a_19), (5, .ref a_10), (0, .ref a0), (1, .ref a1), (2, .int x2), (3, .int x3), (4, .int x4)]) C.x C.b dX1_join_79 hl (by decide) rfl (fun ls hl => ?_)
    obtain ⟨k_22, q0, q1, h⟩ := h
    refine z_new C hR hS k_22 q0 (ci := 7) rfl in_X7 tyX7 tyX7_ok q376 q1241 q106 (fs := [.null, .int 0, .int 0, .null, .null, .int 0, .int 0]) zdf_X7 q1 dX1_join_81 (fun a_20 hf H hR hS => ?_)
    have h := h a_20 hf _ rfl
    generalize zSz (zSo g_17 k_22 a_20 [.null, .int 0, .int 0, .null, .null, .int 0, .int 0]) (zGz g_17 + 1 + 7) = g_21 at h hR
    refine lv_dup C.x C.b dX1_join_84 rfl ?_
    refine lv_aload_n C.x C.b dX1_join_85 rfl (lv_at hl 3 rfl) ?_
    refine lv_iload_n C.x C.b dX1_join_86 rfl (lv_at hl 5 rfl) ?_
    refine lv_iload C.x C.b dX1_join_87 (lv_at hl 6 rfl) ?_
    refine lv_aload C.x C.b dX1_join_89 (lv_at hl 0 rfl) ?_
    refine lv_iload_n C.x C.b dX1_join_91 rfl (lv_at hl 4 rfl) ?_
    refine lv_iconst (v := 1) C.x C.b dX1_join_92 (by decide) ?_
    obtain ⟨h1, h2⟩ := h
    refine lv_icmp_ne (tgt := 100) C.x C.b dX1_join_93 (by decide) (fun c => ?_) (fun c => ?_)
    · have h := h1 c; clear h1 h2
      refine lv_aload C.x C.b dX1_join_100 (lv_at hl 1 rfl) ?_
      refine z_callI C hR hS hl (n := 5) (y := yX7_init) (bytes := cX7_init) (maxL := 6) (As := [.ref a1, .int x3, .int x4, .ref a_19, .ref a_10]) (rest := [.ref a_20]) (lw_meth q1246) q106 q1244 q1245 rfl hdS_X7_init (by decide) rfl rfl (Nat.le_of_ble_eq_true rfl) dX1_join_102 h (fun r g_23 hk_ => ?_) (fun x g1 h => z_out C hQ h)
      clear h; obtain ⟨rfl, h⟩ := hk_
      show GW X E 9 g_23 105 [(6, .ref a_19), (5, .ref a_10), (0, .ref a0), (1, .ref a1), (2, .int x2), (3, .int x3), (4, .int x4)] [.ref a_20]
      intro H locs ls hR hS hl
      refine lv_astore (lv' := [(7, .ref a_20), (6, .ref a_19), (5, .ref a_10), (0, .ref a0), (1, .ref a1), (2, .int x2), (3, .int x3), (4, .int x4)]) C.x C.b dX1_join_105 hl (by decide) rfl (fun ls hl => ?_)
      refine lv_aload C.x C.b dX1_join_107 (lv_at hl 0 rfl) ?_
      obtain ⟨k_25, fs_24, v_26, q0, q1, q2, h⟩ := h
      refine z_getN C hR q1 q0 (ci := 7) rfl in_X7 5 (by decide) q1259 (fun _ h => h) q2 dX1_join_109 ?_
      refine lv_bipush (v := 24) C.x C.b dX1_join_112 (by decide) ?_
      obtain ⟨h1, h2⟩ := h
      refine lv_icmp_gt (tgt := 121) C.x C.b dX1_join_114 (by decide) (fun c => ?_) (fun c => ?_)
      · have h := h1 c; clear h1 h2
        refine lv_iconst (v := 0) C.x C.b dX1_join_121 (by decide) ?_
        refine z_callS C hR hS hl (n := 1) (y := yX1_allow) (bytes := cX1_allow) (maxL := 1) (rt := none) (As := [.int 0]) (rest := []) (lw_S q758 q759 q73 q760) hdS_X1_allow (by decide) rfl rfl (Nat.le_of_ble_eq_true rfl) dX1_join_122 h (fun r g_27 hk_ => ?_) (fun x g1 h => z_out C hQ h)
        exact hk_.2.elim
      · have h := h2 c; clear h1 h2
        refine lv_iconst (v := 1) C.x C.b dX1_join_117 (by decide) ?_
        refine lv_goto (tgt := 122) C.x C.b dX1_join_118 (by decide) ?_
        refine z_callS C hR hS hl (n := 1) (y := yX1_allow) (bytes := cX1_allow) (maxL := 1) (rt := none) (As := [.int 1]) (rest := []) (lw_S q758 q759 q73 q760) hdS_X1_allow (by decide) rfl rfl (Nat.le_of_ble_eq_true rfl) dX1_join_122 h (fun r g_28 hk_ => ?_) (fun x g1 h => z_out C hQ h)
        clear h; obtain ⟨rfl, h⟩ := hk_
        show GW X E 9 g_28 125 [(7, .ref a_20), (6, .ref a_19), (5, .ref a_10), (0, .ref a0), (1, .ref a1), (2, .int x2), (3, .int x3), (4, .int x4)] []
        intro H locs ls hR hS hl
        refine lv_iconst (v := 0) C.x C.b dX1_join_125 (by decide) ?_
        refine lv_istore (lv' := [(8, .int 0), (7, .ref a_20), (6, .ref a_19), (5, .ref a_10), (0, .ref a0), (1, .ref a1), (2, .int x2), (3, .int x3), (4, .int x4)]) C.x C.b dX1_join_126 hl (by decide) rfl (fun ls hl => ?_)
        exact h H locs ls hR hS (lv_sub hl [4, 6, 1, 0] rfl)
    · have h := h2 c; clear h1 h2
      refine lv_null C.x C.b dX1_join_96 ?_
      refine lv_goto (tgt := 102) C.x C.b dX1_join_97 (by decide) ?_
      refine z_callI C hR hS hl (n := 5) (y := yX7_init) (bytes := cX7_init) (maxL := 6) (As := [.ref a1, .int x3, .int x4, .ref a_19, .null]) (rest := [.ref a_20]) (lw_meth q1246) q106 q1244 q1245 rfl hdS_X7_init (by decide) rfl rfl (Nat.le_of_ble_eq_true rfl) dX1_join_102 h (fun r g_29 hk_ => ?_) (fun x g1 h => z_out C hQ h)
      clear h; obtain ⟨rfl, h⟩ := hk_
      show GW X E 9 g_29 105 [(6, .ref a_19), (5, .ref a_10), (0, .ref a0), (1, .ref a1), (2, .int x2), (3, .int x3), (4, .int x4)] [.ref a_20]
      intro H locs ls hR hS hl
      refine lv_astore (lv' := [(7, .ref a_20), (6, .ref a_19), (5, .ref a_10), (0, .ref a0), (1, .ref a1), (2, .int x2), (3, .int x3), (4, .int x4)]) C.x C.b dX1_join_105 hl (by decide) rfl (fun ls hl => ?_)
      refine lv_aload C.x C.b dX1_join_107 (lv_at hl 0 rfl) ?_
      obtain ⟨k_31, fs_30, v_32, q0, q1, q2, h⟩ := h
      refine z_getN C hR q1 q0 (ci := 7) rfl in_X7 5 (by decide) q1259 (fun _ h => h) q2 dX1_join_109 ?_
      refine lv_bipush (v := 24) C.x C.b dX1_join_112 (by decide) ?_
      obtain ⟨h1, h2⟩ := h
      refine lv_icmp_gt (tgt := 121) C.x C.b dX1_join_114 (by decide) (fun c => ?_) (fun c => ?_)
      · have h := h1 c; clear h1 h2
        refine lv_iconst (v := 0) C.x C.b dX1_join_121 (by decide) ?_
        refine z_callS C hR hS hl (n := 1) (y := yX1_allow) (bytes := cX1_allow) (maxL := 1) (rt := none) (As := [.int 0]) (rest := []) (lw_S q758 q759 q73 q760) hdS_X1_allow (by decide) rfl rfl (Nat.le_of_ble_eq_true rfl) dX1_join_122 h (fun r g_33 hk_ => ?_) (fun x g1 h => z_out C hQ h)
        exact hk_.2.elim
      · have h := h2 c; clear h1 h2
        refine lv_iconst (v := 1) C.x C.b dX1_join_117 (by decide) ?_
        refine lv_goto (tgt := 122) C.x C.b dX1_join_118 (by decide) ?_
        refine z_callS C hR hS hl (n := 1) (y := yX1_allow) (bytes := cX1_allow) (maxL := 1) (rt := none) (As := [.int 1]) (rest := []) (lw_S q758 q759 q73 q760) hdS_X1_allow (by decide) rfl rfl (Nat.le_of_ble_eq_true rfl) dX1_join_122 h (fun r g_34 hk_ => ?_) (fun x g1 h => z_out C hQ h)
        clear h; obtain ⟨rfl, h⟩ := hk_
        show GW X E 9 g_34 125 [(7, .ref a_20), (6, .ref a_19), (5, .ref a_10), (0, .ref a0), (1, .ref a1), (2, .int x2), (3, .int x3), (4, .int x4)] []
        intro H locs ls hR hS hl
        refine lv_iconst (v := 0) C.x C.b dX1_join_125 (by decide) ?_
        refine lv_istore (lv' := [(8, .int 0), (7, .ref a_20), (6, .ref a_19), (5, .ref a_10), (0, .ref a0), (1, .ref a1), (2, .int x2), (3, .int x3), (4, .int x4)]) C.x C.b dX1_join_126 hl (by decide) rfl (fun ls hl => ?_)
        exact h H locs ls hR hS (lv_sub hl [4, 6, 1, 0] rfl)
  · have h := h2 c; clear h1 h2
    refine lv_aload C.x C.b dX1_join_51 (lv_at hl 0 rfl) ?_
    refine lv_goto (tgt := 79) C.x C.b dX1_join_53 (by decide) ?_
    refine lv_astore (lv' := [(6, .ref a_10), (5, .ref a_10), (0, .ref a0), (1, .ref a1), (2, .int x2), (3, .int x3), (4, .int x4)]) C.x C.b dX1_join_79 hl (by decide) rfl (fun ls hl => ?_)
    obtain ⟨k_37, q0, q1, h⟩ := h
    refine z_new C hR hS k_37 q0 (ci := 7) rfl in_X7 tyX7 tyX7_ok q376 q1241 q106 (fs := [.null, .int 0, .int 0, .null, .null, .int 0, .int 0]) zdf_X7 q1 dX1_join_81 (fun a_35 hf H hR hS => ?_)
    have h := h a_35 hf _ rfl
    generalize zSz (zSo g_8 k_37 a_35 [.null, .int 0, .int 0, .null, .null, .int 0, .int 0]) (zGz g_8 + 1 + 7) = g_36 at h hR
    refine lv_dup C.x C.b dX1_join_84 rfl ?_
    refine lv_aload_n C.x C.b dX1_join_85 rfl (lv_at hl 3 rfl) ?_
    refine lv_iload_n C.x C.b dX1_join_86 rfl (lv_at hl 5 rfl) ?_
    refine lv_iload C.x C.b dX1_join_87 (lv_at hl 6 rfl) ?_
    refine lv_aload C.x C.b dX1_join_89 (lv_at hl 0 rfl) ?_
    refine lv_iload_n C.x C.b dX1_join_91 rfl (lv_at hl 4 rfl) ?_
    refine lv_iconst (v := 1) C.x C.b dX1_join_92 (by decide) ?_
    obtain ⟨h1, h2⟩ := h
    refine lv_icmp_ne (tgt := 100) C.x C.b dX1_join_93 (by decide) (fun c => ?_) (fun c => ?_)
    · have h := h1 c; clear h1 h2
      refine lv_aload C.x C.b dX1_join_100 (lv_at hl 1 rfl) ?_
      refine z_callI C hR hS hl (n := 5) (y := yX7_init) (bytes := cX7_init) (maxL := 6) (As := [.ref a1, .int x3, .int x4, .ref a_10, .ref a_10]) (rest := [.ref a_35]) (lw_meth q1246) q106 q1244 q1245 rfl hdS_X7_init (by decide) rfl rfl (Nat.le_of_ble_eq_true rfl) dX1_join_102 h (fun r g_38 hk_ => ?_) (fun x g1 h => z_out C hQ h)
      clear h; obtain ⟨rfl, h⟩ := hk_
      show GW X E 9 g_38 105 [(6, .ref a_10), (5, .ref a_10), (0, .ref a0), (1, .ref a1), (2, .int x2), (3, .int x3), (4, .int x4)] [.ref a_35]
      intro H locs ls hR hS hl
      refine lv_astore (lv' := [(7, .ref a_35), (6, .ref a_10), (5, .ref a_10), (0, .ref a0), (1, .ref a1), (2, .int x2), (3, .int x3), (4, .int x4)]) C.x C.b dX1_join_105 hl (by decide) rfl (fun ls hl => ?_)
      refine lv_aload C.x C.b dX1_join_107 (lv_at hl 0 rfl) ?_
      obtain ⟨k_40, fs_39, v_41, q0, q1, q2, h⟩ := h
      refine z_getN C hR q1 q0 (ci := 7) rfl in_X7 5 (by decide) q1259 (fun _ h => h) q2 dX1_join_109 ?_
      refine lv_bipush (v := 24) C.x C.b dX1_join_112 (by decide) ?_
      obtain ⟨h1, h2⟩ := h
      refine lv_icmp_gt (tgt := 121) C.x C.b dX1_join_114 (by decide) (fun c => ?_) (fun c => ?_)
      · have h := h1 c; clear h1 h2
        refine lv_iconst (v := 0) C.x C.b dX1_join_121 (by decide) ?_
        refine z_callS C hR hS hl (n := 1) (y := yX1_allow) (bytes := cX1_allow) (maxL := 1) (rt := none) (As := [.int 0]) (rest := []) (lw_S q758 q759 q73 q760) hdS_X1_allow (by decide) rfl rfl (Nat.le_of_ble_eq_true rfl) dX1_join_122 h (fun r g_42 hk_ => ?_) (fun x g1 h => z_out C hQ h)
        exact hk_.2.elim
      · have h := h2 c; clear h1 h2
        refine lv_iconst (v := 1) C.x C.b dX1_join_117 (by decide) ?_
        refine lv_goto (tgt := 122) C.x C.b dX1_join_118 (by decide) ?_
        refine z_callS C hR hS hl (n := 1) (y := yX1_allow) (bytes := cX1_allow) (maxL := 1) (rt := none) (As := [.int 1]) (rest := []) (lw_S q758 q759 q73 q760) hdS_X1_allow (by decide) rfl rfl (Nat.le_of_ble_eq_true rfl) dX1_join_122 h (fun r g_43 hk_ => ?_) (fun x g1 h => z_out C hQ h)
        clear h; obtain ⟨rfl, h⟩ := hk_
        show GW X E 9 g_43 125 [(7, .ref a_35), (6, .ref a_10), (5, .ref a_10), (0, .ref a0), (1, .ref a1), (2, .int x2), (3, .int x3), (4, .int x4)] []
        intro H locs ls hR hS hl
        refine lv_iconst (v := 0) C.x C.b dX1_join_125 (by decide) ?_
        refine lv_istore (lv' := [(8, .int 0), (7, .ref a_35), (6, .ref a_10), (5, .ref a_10), (0, .ref a0), (1, .ref a1), (2, .int x2), (3, .int x3), (4, .int x4)]) C.x C.b dX1_join_126 hl (by decide) rfl (fun ls hl => ?_)
        exact h H locs ls hR hS (lv_sub hl [4, 6, 1, 0] rfl)
    · have h := h2 c; clear h1 h2
      refine lv_null C.x C.b dX1_join_96 ?_
      refine lv_goto (tgt := 102) C.x C.b dX1_join_97 (by decide) ?_
      refine z_callI C hR hS hl (n := 5) (y := yX7_init) (bytes := cX7_init) (maxL := 6) (As := [.ref a1, .int x3, .int x4, .ref a_10, .null]) (rest := [.ref a_35]) (lw_meth q1246) q106 q1244 q1245 rfl hdS_X7_init (by decide) rfl rfl (Nat.le_of_ble_eq_true rfl) dX1_join_102 h (fun r g_44 hk_ => ?_) (fun x g1 h => z_out C hQ h)
      clear h; obtain ⟨rfl, h⟩ := hk_
      show GW X E 9 g_44 105 [(6, .ref a_10), (5, .ref a_10), (0, .ref a0), (1, .ref a1), (2, .int x2), (3, .int x3), (4, .int x4)] [.ref a_35]
      intro H locs ls hR hS hl
      refine lv_astore (lv' := [(7, .ref a_35), (6, .ref a_10), (5, .ref a_10), (0, .ref a0), (1, .ref a1), (2, .int x2), (3, .int x3), (4, .int x4)]) C.x C.b dX1_join_105 hl (by decide) rfl (fun ls hl => ?_)
      refine lv_aload C.x C.b dX1_join_107 (lv_at hl 0 rfl) ?_
      obtain ⟨k_46, fs_45, v_47, q0, q1, q2, h⟩ := h
      refine z_getN C hR q1 q0 (ci := 7) rfl in_X7 5 (by decide) q1259 (fun _ h => h) q2 dX1_join_109 ?_
      refine lv_bipush (v := 24) C.x C.b dX1_join_112 (by decide) ?_
      obtain ⟨h1, h2⟩ := h
      refine lv_icmp_gt (tgt := 121) C.x C.b dX1_join_114 (by decide) (fun c => ?_) (fun c => ?_)
      · have h := h1 c; clear h1 h2
        refine lv_iconst (v := 0) C.x C.b dX1_join_121 (by decide) ?_
        refine z_callS C hR hS hl (n := 1) (y := yX1_allow) (bytes := cX1_allow) (maxL := 1) (rt := none) (As := [.int 0]) (rest := []) (lw_S q758 q759 q73 q760) hdS_X1_allow (by decide) rfl rfl (Nat.le_of_ble_eq_true rfl) dX1_join_122 h (fun r g_48 hk_ => ?_) (fun x g1 h => z_out C hQ h)
        exact hk_.2.elim
      · have h := h2 c; clear h1 h2
        refine lv_iconst (v := 1) C.x C.b dX1_join_117 (by decide) ?_
        refine lv_goto (tgt := 122) C.x C.b dX1_join_118 (by decide) ?_
        refine z_callS C hR hS hl (n := 1) (y := yX1_allow) (bytes := cX1_allow) (maxL := 1) (rt := none) (As := [.int 1]) (rest := []) (lw_S q758 q759 q73 q760) hdS_X1_allow (by decide) rfl rfl (Nat.le_of_ble_eq_true rfl) dX1_join_122 h (fun r g_49 hk_ => ?_) (fun x g1 h => z_out C hQ h)
        clear h; obtain ⟨rfl, h⟩ := hk_
        show GW X E 9 g_49 125 [(7, .ref a_35), (6, .ref a_10), (5, .ref a_10), (0, .ref a0), (1, .ref a1), (2, .int x2), (3, .int x3), (4, .int x4)] []
        intro H locs ls hR hS hl
        refine lv_iconst (v := 0) C.x C.b dX1_join_125 (by decide) ?_
        refine lv_istore (lv' := [(8, .int 0), (7, .ref a_35), (6, .ref a_10), (5, .ref a_10), (0, .ref a0), (1, .ref a1), (2, .int x2), (3, .int x3), (4, .int x4)]) C.x C.b dX1_join_126 hl (by decide) rfl (fun ls hl => ?_)
        exact h H locs ls hR hS (lv_sub hl [4, 6, 1, 0] rfl)
set_option maxHeartbeats 4000000 in
theorem bX1_join_128 {X : zX} {d : Nat} {E : zM} {K : Option Value → zG → Prop} {KX : String → zG → Prop} (C : zC X (d + 1) E RX1 cX1_join 9 (some .int) "join") (hQ : zQ X E K KX) (g : zG) (a0 : Nat) (x2 : Int32) (a7 : Nat) (x8 : Int32) (h : (x2 ≤ x8 → ∃ (fs_1 : List Value) (a_2 : Nat), zGo g 1 a0 = some fs_1 ∧ fs_1[8]? = some (.ref a_2) ∧ zIs g 0 a_2 ∧ zCal X d yJ2_add wJ2_add [.ref a_2, .ref a7] g (fun r g_3 => ∃ v_4 : Int32, r = some (.int v_4) ∧ zbo v_4 ∧ ∃ (fs_5 : List Value) (a_6 : Nat), zGo g_3 1 a0 = some fs_5 ∧ fs_5[8]? = some (.ref a_6) ∧ zIs g_3 0 a_6 ∧ zCal X d yJ2_size wJ2_size [.ref a_6] g_3 (fun r g_7 => ∃ v_8 : Int32, r = some (.int v_8) ∧ K (some (.int v_8)) g_7) KX) KX) ∧ (¬ x2 ≤ x8 → ∃ (fs_9 : List Value) (a_10 : Nat), zGo g 1 a0 = some fs_9 ∧ fs_9[8]? = some (.ref a_10) ∧ ∃ (fs_11 : List Value) (a_12 : Nat), zGo g 1 a0 = some fs_11 ∧ fs_11[8]? = some (.ref a_12) ∧ zIs g 0 a_12 ∧ zCal X d yJ2_size wJ2_size [.ref a_12] g (fun r g_13 => ∃ v_14 : Int32, r = some (.int v_14) ∧ zIs g_13 0 a_10 ∧ zCal X d yJ2_remove wJ2_remove [.ref a_10, .int (v_14 - 1)] g_13 (fun r g_15 => ∃ r_16 : Option Nat, r = some (va_rf r_16) ∧ GW X E 9 g_15 128 [(0, .ref a0), (2, .int x2), (7, .ref a7), (8, .int (x8 + 1))] []) KX) KX)) : GW X E 9 g 128 [(0, .ref a0), (2, .int x2), (7, .ref a7), (8, .int x8)] [] := by
  intro H locs ls hR hS hl
  refine lv_iload C.x C.b dX1_join_128 (lv_at hl 3 rfl) ?_
  refine lv_iload_n C.x C.b dX1_join_130 rfl (lv_at hl 1 rfl) ?_
  obtain ⟨h1, h2⟩ := h
  refine lv_icmp_ge (tgt := 161) C.x C.b dX1_join_131 (by decide) (fun c => ?_) (fun c => ?_)
  · have h := h1 c; clear h1 h2
    refine lv_aload_n C.x C.b dX1_join_161 rfl (lv_at hl 0 rfl) ?_
    obtain ⟨fs_1, a_2, q1, q2, h⟩ := h
    refine z_get C hR q1 rfl (ci := 1) rfl in_X1 8 (by decide) q256 (fun _ h => h) q2 dX1_join_162 ?_
    refine lv_aload C.x C.b dX1_join_165 (lv_at hl 2 rfl) ?_
    refine z_callF C hR hS hl (n := 1) (C1 := RJ2) (T := TJ2) (N := 3) (ci := 0) (y := yJ2_add) (bytes := cJ2_add) (maxL := 2) (rt := (some .boolean)) (As := [.ref a7]) (rest := []) (x := ⟨"java/util/List", "add", "(Ljava/lang/Object;)Z"⟩) h.1 rfl (lw_F q171 q175 q177 q76 q179) ⟨C.ok.2.1 _ q173, C.ok.2.1 _ q172, C.ok.2.1 _ q178, C.ok.2.1 _ q176, C.ok.2.1 _ q174⟩ hdF_J2_add (by decide) rfl rfl (Nat.le_of_ble_eq_true rfl) dX1_join_167 h.2 (fun r g_3 hk_ => ?_) (fun x g1 h => z_out C hQ h)
    clear h; obtain ⟨v_4, rfl, zb_, h⟩ := hk_
    show GW X E 9 g_3 172 [(0, .ref a0), (2, .int x2), (7, .ref a7), (8, .int x8)] [.int v_4]
    intro H locs ls hR hS hl
    refine lv_pop C.x C.b dX1_join_172 rfl ?_
    refine lv_aload_n C.x C.b dX1_join_173 rfl (lv_at hl 0 rfl) ?_
    obtain ⟨fs_5, a_6, q1, q2, h⟩ := h
    refine z_get C hR q1 rfl (ci := 1) rfl in_X1 8 (by decide) q256 (fun _ h => h) q2 dX1_join_174 ?_
    refine z_callF C hR hS hl (n := 0) (C1 := RJ2) (T := TJ2) (N := 3) (ci := 0) (y := yJ2_size) (bytes := cJ2_size) (maxL := 1) (rt := (some .int)) (As := []) (rest := []) (x := ⟨"java/util/List", "size", "()I"⟩) h.1 rfl (lw_F q291 q294 q296 q76 q298) ⟨C.ok.2.1 _ q293, C.ok.2.1 _ q292, C.ok.2.1 _ q297, C.ok.2.1 _ q295, C.ok.2.1 _ q174⟩ hdF_J2_size (by decide) rfl rfl (Nat.le_of_ble_eq_true rfl) dX1_join_177 h.2 (fun r g_7 hk_ => ?_) (fun x g1 h => z_out C hQ h)
    clear h; obtain ⟨v_8, rfl, h⟩ := hk_
    show GW X E 9 g_7 182 [(0, .ref a0), (2, .int x2), (7, .ref a7), (8, .int x8)] [.int v_8]
    intro H locs ls hR hS hl
    exact z_iret C hQ dX1_join_182 h H locs ls hR hS hl
  · have h := h2 c; clear h1 h2
    refine lv_aload_n C.x C.b dX1_join_134 rfl (lv_at hl 0 rfl) ?_
    obtain ⟨fs_9, a_10, q1, q2, h⟩ := h
    refine z_get C hR q1 rfl (ci := 1) rfl in_X1 8 (by decide) q256 (fun _ h => h) q2 dX1_join_135 ?_
    refine lv_aload_n C.x C.b dX1_join_138 rfl (lv_at hl 0 rfl) ?_
    obtain ⟨fs_11, a_12, q1, q2, h⟩ := h
    refine z_get C hR q1 rfl (ci := 1) rfl in_X1 8 (by decide) q256 (fun _ h => h) q2 dX1_join_139 ?_
    refine z_callF C hR hS hl (n := 0) (C1 := RJ2) (T := TJ2) (N := 3) (ci := 0) (y := yJ2_size) (bytes := cJ2_size) (maxL := 1) (rt := (some .int)) (As := []) (rest := [.ref a_10]) (x := ⟨"java/util/List", "size", "()I"⟩) h.1 rfl (lw_F q291 q294 q296 q76 q298) ⟨C.ok.2.1 _ q293, C.ok.2.1 _ q292, C.ok.2.1 _ q297, C.ok.2.1 _ q295, C.ok.2.1 _ q174⟩ hdF_J2_size (by decide) rfl rfl (Nat.le_of_ble_eq_true rfl) dX1_join_142 h.2 (fun r g_13 hk_ => ?_) (fun x g1 h => z_out C hQ h)
    clear h; obtain ⟨v_14, rfl, h⟩ := hk_
    show GW X E 9 g_13 147 [(0, .ref a0), (2, .int x2), (7, .ref a7), (8, .int x8)] [.int v_14, .ref a_10]
    intro H locs ls hR hS hl
    refine lv_iconst (v := 1) C.x C.b dX1_join_147 (by decide) ?_
    refine lv_isub C.x C.b dX1_join_148 ?_
    refine z_callF C hR hS hl (n := 1) (C1 := RJ2) (T := TJ2) (N := 3) (ci := 0) (y := yJ2_remove) (bytes := cJ2_remove) (maxL := 4) (rt := (some (.object "java/lang/Object"))) (As := [.int (v_14 - 1)]) (rest := []) (x := ⟨"java/util/List", "remove", "(I)Ljava/lang/Object;"⟩) h.1 rfl (lw_F q1305 q603 q605 q76 q607) ⟨C.ok.2.1 _ q602, C.ok.2.1 _ q601, C.ok.2.1 _ q606, C.ok.2.1 _ q604, C.ok.2.1 _ q174⟩ hdF_J2_remove (by decide) rfl rfl (Nat.le_of_ble_eq_true rfl) dX1_join_149 h.2 (fun r g_15 hk_ => ?_) (fun x g1 h => z_out C hQ h)
    clear h; obtain ⟨r_16, rfl, h⟩ := hk_
    show GW X E 9 g_15 154 [(0, .ref a0), (2, .int x2), (7, .ref a7), (8, .int x8)] [va_rf r_16]
    intro H locs ls hR hS hl
    refine lv_pop C.x C.b dX1_join_154 (zrf_cat _) ?_
    refine lv_iinc (v := x8 + 1) (lv' := [(8, .int (x8 + 1)), (0, .ref a0), (2, .int x2), (7, .ref a7)]) C.x C.b dX1_join_155 hl (k := 3) rfl rfl (by decide) rfl (fun ls hl => ?_)
    refine lv_goto (tgt := 128) C.x C.b dX1_join_158 (by decide) ?_
    exact h H locs ls hR hS (lv_sub hl [1, 2, 3, 0] rfl)
set_option maxHeartbeats 4000000 in
theorem mX1_join {X : zX} {d : Nat} {g : zG} {K : Option Value → zG → Prop} {KX : String → zG → Prop} (hok : zOk X) (a0 : Nat) (a1 : Nat) (x2 : Int32) (x3 : Int32) (x4 : Int32) (h : ∀ E : zM, zC X (d + 1) E RX1 cX1_join 9 (some .int) "join" → zQ X E K KX → ∃ (fs_1 : List Value) (a_2 : Nat), zGo g 1 a0 = some fs_1 ∧ fs_1[8]? = some (.ref a_2) ∧ zIs g 0 a_2 ∧ zCal X d yJ2_size wJ2_size [.ref a_2] g (fun r g_3 => ∃ v_4 : Int32, r = some (.int v_4) ∧ (v_4 < x2 → GW X E 9 g_3 18 [(0, .ref a0), (1, .ref a1), (2, .int x2), (3, .int x3), (4, .int x4)] [.int 0]) ∧ (¬ v_4 < x2 → GW X E 9 g_3 18 [(0, .ref a0), (1, .ref a1), (2, .int x2), (3, .int x3), (4, .int x4)] [.int 1])) KX) : zCal X (d + 1) yX1_join wX1_join [.ref a0, .ref a1, .int x2, .int x3, .int x4] g K KX := by
  refine z_enter hok pn_X1 (Nat.le_of_ble_eq_true rfl) (fun E C hQ => ?_)
  have C : zC X (d + 1) E RX1 cX1_join 9 (some .int) "join" := C
  have h := h E C hQ
  show GW X E 9 g 0 [(0, .ref a0), (1, .ref a1), (2, .int x2), (3, .int x3), (4, .int x4)] []
  intro H locs ls hR hS hl
  refine lv_aload_n C.x C.b dX1_join_0 rfl (lv_at hl 0 rfl) ?_
  obtain ⟨fs_1, a_2, q1, q2, h⟩ := h
  refine z_get C hR q1 rfl (ci := 1) rfl in_X1 8 (by decide) q256 (fun _ h => h) q2 dX1_join_1 ?_
  refine z_callF C hR hS hl (n := 0) (C1 := RJ2) (T := TJ2) (N := 3) (ci := 0) (y := yJ2_size) (bytes := cJ2_size) (maxL := 1) (rt := (some .int)) (As := []) (rest := []) (x := ⟨"java/util/List", "size", "()I"⟩) h.1 rfl (lw_F q291 q294 q296 q76 q298) ⟨C.ok.2.1 _ q293, C.ok.2.1 _ q292, C.ok.2.1 _ q297, C.ok.2.1 _ q295, C.ok.2.1 _ q174⟩ hdF_J2_size (by decide) rfl rfl (Nat.le_of_ble_eq_true rfl) dX1_join_4 h.2 (fun r g_3 hk_ => ?_) (fun x g1 h => z_out C hQ h)
  clear h; obtain ⟨v_4, rfl, h⟩ := hk_
  show GW X E 9 g_3 9 [(0, .ref a0), (1, .ref a1), (2, .int x2), (3, .int x3), (4, .int x4)] [.int v_4]
  intro H locs ls hR hS hl
  refine lv_iload_n C.x C.b dX1_join_9 rfl (lv_at hl 2 rfl) ?_
  obtain ⟨h1, h2⟩ := h
  refine lv_icmp_lt (tgt := 17) C.x C.b dX1_join_10 (by decide) (fun c => ?_) (fun c => ?_)
  · have h := h1 c; clear h1 h2
    refine lv_iconst (v := 0) C.x C.b dX1_join_17 (by decide) ?_
    exact h H locs ls hR hS (lv_sub hl [0, 1, 2, 3, 4] rfl)
  · have h := h2 c; clear h1 h2
    refine lv_iconst (v := 1) C.x C.b dX1_join_13 (by decide) ?_
    refine lv_goto (tgt := 18) C.x C.b dX1_join_14 (by decide) ?_
    exact h H locs ls hR hS (lv_sub hl [0, 1, 2, 3, 4] rfl)
theorem hdV_X1_join : yX1_join.cls = RX1 ∧ yX1_join.cls ≠ "java/lang/invoke/MethodHandle" ∧ yX1_join.cls ≠ "java/lang/invoke/VarHandle" ∧ (parseMethodDescriptor yX1_join.desc).map (fun d => d.parameters.length) = some 4 := by decide +kernel
set_option maxHeartbeats 4000000 in
theorem mX1_not {X : zX} {d : Nat} {g : zG} {K : Option Value → zG → Prop} {KX : String → zG → Prop} (hok : zOk X) (a0 : Nat) (h : zIs g 1 a0 ∧ zCal X d yX1_join wX1_join [.ref a0, .ref (zE X 2), .int 1, .int 0, .int 0] g (fun r g_1 => ∃ v_2 : Int32, r = some (.int v_2) ∧ K (some (.int v_2)) g_1) KX) : zCal X (d + 1) yX1_not wX1_not [.ref a0] g K KX := by
  refine z_enter hok pn_X1 (Nat.le_of_ble_eq_true rfl) (fun E C hQ => ?_)
  have C : zC X (d + 1) E RX1 cX1_not 1 (some .int) "not" := C
  show GW X E 1 g 0 [(0, .ref a0)] []
  intro H locs ls hR hS hl
  refine lv_aload_n C.x C.b dX1_not_0 rfl (lv_at hl 0 rfl) ?_
  refine z_getsE C hS 2 (by decide) q1298 dX1_not_1 ?_
  refine lv_iconst (v := 1) C.x C.b dX1_not_4 (by decide) ?_
  refine lv_iconst (v := 0) C.x C.b dX1_not_5 (by decide) ?_
  refine lv_iconst (v := 0) C.x C.b dX1_not_6 (by decide) ?_
  refine z_callV C hR hS hl (n := 4) (C1 := RX1) (T := TX1) (N := 12) (ci := 1) (y := yX1_join) (bytes := cX1_join) (maxL := 9) (rt := (some .int)) (As := [.ref (zE X 2), .int 1, .int 0, .int 0]) (rest := []) h.1 rfl (lw_V q1300 q1302 qs22 q73 q1303) hdV_X1_join (by decide) rfl rfl (Nat.le_of_ble_eq_true rfl) dX1_not_7 h.2 (fun r g_1 hk_ => ?_) (fun x g1 h => z_out C hQ h)
  clear h; obtain ⟨v_2, rfl, h⟩ := hk_
  show GW X E 1 g_1 10 [(0, .ref a0)] [.int v_2]
  intro H locs ls hR hS hl
  exact z_iret C hQ dX1_not_10 h H locs ls hR hS hl
set_option maxHeartbeats 4000000 in
theorem mX1_both {X : zX} {d : Nat} {g : zG} {K : Option Value → zG → Prop} {KX : String → zG → Prop} (hok : zOk X) (a0 : Nat) (h : zIs g 1 a0 ∧ zCal X d yX1_join wX1_join [.ref a0, .ref (zE X 3), .int 2, .int 0, .int 0] g (fun r g_1 => ∃ v_2 : Int32, r = some (.int v_2) ∧ K (some (.int v_2)) g_1) KX) : zCal X (d + 1) yX1_both wX1_both [.ref a0] g K KX := by
  refine z_enter hok pn_X1 (Nat.le_of_ble_eq_true rfl) (fun E C hQ => ?_)
  have C : zC X (d + 1) E RX1 cX1_both 1 (some .int) "both" := C
  show GW X E 1 g 0 [(0, .ref a0)] []
  intro H locs ls hR hS hl
  refine lv_aload_n C.x C.b dX1_both_0 rfl (lv_at hl 0 rfl) ?_
  refine z_getsE C hS 3 (by decide) q1313 dX1_both_1 ?_
  refine lv_iconst (v := 2) C.x C.b dX1_both_4 (by decide) ?_
  refine lv_iconst (v := 0) C.x C.b dX1_both_5 (by decide) ?_
  refine lv_iconst (v := 0) C.x C.b dX1_both_6 (by decide) ?_
  refine z_callV C hR hS hl (n := 4) (C1 := RX1) (T := TX1) (N := 12) (ci := 1) (y := yX1_join) (bytes := cX1_join) (maxL := 9) (rt := (some .int)) (As := [.ref (zE X 3), .int 2, .int 0, .int 0]) (rest := []) h.1 rfl (lw_V q1300 q1302 qs22 q73 q1303) hdV_X1_join (by decide) rfl rfl (Nat.le_of_ble_eq_true rfl) dX1_both_7 h.2 (fun r g_1 hk_ => ?_) (fun x g1 h => z_out C hQ h)
  clear h; obtain ⟨v_2, rfl, h⟩ := hk_
  show GW X E 1 g_1 10 [(0, .ref a0)] [.int v_2]
  intro H locs ls hR hS hl
  exact z_iret C hQ dX1_both_10 h H locs ls hR hS hl
set_option maxHeartbeats 4000000 in
theorem mX1_either {X : zX} {d : Nat} {g : zG} {K : Option Value → zG → Prop} {KX : String → zG → Prop} (hok : zOk X) (a0 : Nat) (h : zIs g 1 a0 ∧ zCal X d yX1_join wX1_join [.ref a0, .ref (zE X 4), .int 2, .int 0, .int 0] g (fun r g_1 => ∃ v_2 : Int32, r = some (.int v_2) ∧ K (some (.int v_2)) g_1) KX) : zCal X (d + 1) yX1_either wX1_either [.ref a0] g K KX := by
  refine z_enter hok pn_X1 (Nat.le_of_ble_eq_true rfl) (fun E C hQ => ?_)
  have C : zC X (d + 1) E RX1 cX1_either 1 (some .int) "either" := C
  show GW X E 1 g 0 [(0, .ref a0)] []
  intro H locs ls hR hS hl
  refine lv_aload_n C.x C.b dX1_either_0 rfl (lv_at hl 0 rfl) ?_
  refine z_getsE C hS 4 (by decide) q1322 dX1_either_1 ?_
  refine lv_iconst (v := 2) C.x C.b dX1_either_4 (by decide) ?_
  refine lv_iconst (v := 0) C.x C.b dX1_either_5 (by decide) ?_
  refine lv_iconst (v := 0) C.x C.b dX1_either_6 (by decide) ?_
  refine z_callV C hR hS hl (n := 4) (C1 := RX1) (T := TX1) (N := 12) (ci := 1) (y := yX1_join) (bytes := cX1_join) (maxL := 9) (rt := (some .int)) (As := [.ref (zE X 4), .int 2, .int 0, .int 0]) (rest := []) h.1 rfl (lw_V q1300 q1302 qs22 q73 q1303) hdV_X1_join (by decide) rfl rfl (Nat.le_of_ble_eq_true rfl) dX1_either_7 h.2 (fun r g_1 hk_ => ?_) (fun x g1 h => z_out C hQ h)
  clear h; obtain ⟨v_2, rfl, h⟩ := hk_
  show GW X E 1 g_1 10 [(0, .ref a0)] [.int v_2]
  intro H locs ls hR hS hl
  exact z_iret C hQ dX1_either_10 h H locs ls hR hS hl
set_option maxHeartbeats 4000000 in
theorem mX1_before {X : zX} {d : Nat} {g : zG} {K : Option Value → zG → Prop} {KX : String → zG → Prop} (hok : zOk X) (a0 : Nat) (h : zIs g 1 a0 ∧ zCal X d yX1_join wX1_join [.ref a0, .ref (zE X 5), .int 1, .int 0, .int 0] g (fun r g_1 => ∃ v_2 : Int32, r = some (.int v_2) ∧ K (some (.int v_2)) g_1) KX) : zCal X (d + 1) yX1_before wX1_before [.ref a0] g K KX := by
  refine z_enter hok pn_X1 (Nat.le_of_ble_eq_true rfl) (fun E C hQ => ?_)
  have C : zC X (d + 1) E RX1 cX1_before 1 (some .int) "before" := C
  show GW X E 1 g 0 [(0, .ref a0)] []
  intro H locs ls hR hS hl
  refine lv_aload_n C.x C.b dX1_before_0 rfl (lv_at hl 0 rfl) ?_
  refine z_getsE C hS 5 (by decide) q1331 dX1_before_1 ?_
  refine lv_iconst (v := 1) C.x C.b dX1_before_4 (by decide) ?_
  refine lv_iconst (v := 0) C.x C.b dX1_before_5 (by decide) ?_
  refine lv_iconst (v := 0) C.x C.b dX1_before_6 (by decide) ?_
  refine z_callV C hR hS hl (n := 4) (C1 := RX1) (T := TX1) (N := 12) (ci := 1) (y := yX1_join) (bytes := cX1_join) (maxL := 9) (rt := (some .int)) (As := [.ref (zE X 5), .int 1, .int 0, .int 0]) (rest := []) h.1 rfl (lw_V q1300 q1302 qs22 q73 q1303) hdV_X1_join (by decide) rfl rfl (Nat.le_of_ble_eq_true rfl) dX1_before_7 h.2 (fun r g_1 hk_ => ?_) (fun x g1 h => z_out C hQ h)
  clear h; obtain ⟨v_2, rfl, h⟩ := hk_
  show GW X E 1 g_1 10 [(0, .ref a0)] [.int v_2]
  intro H locs ls hR hS hl
  exact z_iret C hQ dX1_before_10 h H locs ls hR hS hl
set_option maxHeartbeats 4000000 in
theorem mX1_isBound {X : zX} {d : Nat} {g : zG} {K : Option Value → zG → Prop} {KX : String → zG → Prop} (hok : zOk X) (x0 : Int32) (h : zCal X d yX1_isIn wX1_isIn [.int x0, .int (-1), .int 1000] g (fun r g_1 => ∃ v_2 : Int32, r = some (.int v_2) ∧ zbo v_2 ∧ zbo v_2 ∧ K (some (.int v_2)) g_1) KX) : zCal X (d + 1) yX1_isBound wX1_isBound [.int x0] g K KX := by
  refine z_enter hok pn_X1 (Nat.le_of_ble_eq_true rfl) (fun E C hQ => ?_)
  have C : zC X (d + 1) E RX1 cX1_isBound 1 (some .boolean) "isBound" := C
  show GW X E 1 g 0 [(0, .int x0)] []
  intro H locs ls hR hS hl
  refine lv_iload_n C.x C.b dX1_isBound_0 rfl (lv_at hl 0 rfl) ?_
  refine lv_iconst (v := (-1)) C.x C.b dX1_isBound_1 (by decide) ?_
  refine lv_sipush (v := 1000) C.x C.b dX1_isBound_2 (by decide) ?_
  refine z_callS C hR hS hl (n := 3) (y := yX1_isIn) (bytes := cX1_isIn) (maxL := 3) (rt := (some .boolean)) (As := [.int x0, .int (-1), .int 1000]) (rest := []) (lw_S q701 q702 q73 q703) hdS_X1_isIn (by decide) rfl rfl (Nat.le_of_ble_eq_true rfl) dX1_isBound_5 h (fun r g_1 hk_ => ?_) (fun x g1 h => z_out C hQ h)
  clear h; obtain ⟨v_2, rfl, zb_, h⟩ := hk_
  show GW X E 1 g_1 8 [(0, .int x0)] [.int v_2]
  intro H locs ls hR hS hl
  exact z_zret C hQ (zbo_n h.1) dX1_isBound_8 h.2 H locs ls hR hS hl
theorem hdS_X1_isBound : yX1_isBound.cls ≠ "java/lang/invoke/MethodHandle" ∧ yX1_isBound.cls ≠ "java/lang/invoke/VarHandle" ∧ (parseMethodDescriptor yX1_isBound.desc).map (fun d => d.parameters.length) = some 1 := by decide +kernel
set_option maxHeartbeats 4000000 in
theorem mX1_since {X : zX} {d : Nat} {g : zG} {K : Option Value → zG → Prop} {KX : String → zG → Prop} (hok : zOk X) (a0 : Nat) (x1 : Int32) (h : zCal X d yX1_isBound wX1_isBound [.int x1] g (fun r g_1 => ∃ v_2 : Int32, r = some (.int v_2) ∧ zbo v_2 ∧ zCal X d yX1_check wX1_check [.int v_2] g_1 (fun r g_3 => r = none ∧ zIs g_3 1 a0 ∧ zCal X d yX1_join wX1_join [.ref a0, .ref (zE X 6), .int 2, .int 0, .int x1] g_3 (fun r g_4 => ∃ v_5 : Int32, r = some (.int v_5) ∧ K (some (.int v_5)) g_4) KX) KX) KX) : zCal X (d + 1) yX1_since wX1_since [.ref a0, .int x1] g K KX := by
  refine z_enter hok pn_X1 (Nat.le_of_ble_eq_true rfl) (fun E C hQ => ?_)
  have C : zC X (d + 1) E RX1 cX1_since 2 (some .int) "since" := C
  show GW X E 2 g 0 [(0, .ref a0), (1, .int x1)] []
  intro H locs ls hR hS hl
  refine lv_iload_n C.x C.b dX1_since_0 rfl (lv_at hl 1 rfl) ?_
  refine z_callS C hR hS hl (n := 1) (y := yX1_isBound) (bytes := cX1_isBound) (maxL := 1) (rt := (some .boolean)) (As := [.int x1]) (rest := []) (lw_S q1340 q1341 q73 q1342) hdS_X1_isBound (by decide) rfl rfl (Nat.le_of_ble_eq_true rfl) dX1_since_1 h (fun r g_1 hk_ => ?_) (fun x g1 h => z_out C hQ h)
  clear h; obtain ⟨v_2, rfl, zb_, h⟩ := hk_
  show GW X E 2 g_1 4 [(0, .ref a0), (1, .int x1)] [.int v_2]
  intro H locs ls hR hS hl
  refine z_callS C hR hS hl (n := 1) (y := yX1_check) (bytes := cX1_check) (maxL := 1) (rt := none) (As := [.int v_2]) (rest := []) (lw_S q720 q721 q73 q722) hdS_X1_check (by decide) rfl rfl (Nat.le_of_ble_eq_true rfl) dX1_since_4 h (fun r g_3 hk_ => ?_) (fun x g1 h => z_out C hQ h)
  clear h; obtain ⟨rfl, h⟩ := hk_
  show GW X E 2 g_3 7 [(0, .ref a0), (1, .int x1)] []
  intro H locs ls hR hS hl
  refine lv_aload_n C.x C.b dX1_since_7 rfl (lv_at hl 0 rfl) ?_
  refine z_getsE C hS 6 (by decide) q1343 dX1_since_8 ?_
  refine lv_iconst (v := 2) C.x C.b dX1_since_11 (by decide) ?_
  refine lv_iconst (v := 0) C.x C.b dX1_since_12 (by decide) ?_
  refine lv_iload_n C.x C.b dX1_since_13 rfl (lv_at hl 1 rfl) ?_
  refine z_callV C hR hS hl (n := 4) (C1 := RX1) (T := TX1) (N := 12) (ci := 1) (y := yX1_join) (bytes := cX1_join) (maxL := 9) (rt := (some .int)) (As := [.ref (zE X 6), .int 2, .int 0, .int x1]) (rest := []) h.1 rfl (lw_V q1300 q1302 qs22 q73 q1303) hdV_X1_join (by decide) rfl rfl (Nat.le_of_ble_eq_true rfl) dX1_since_14 h.2 (fun r g_4 hk_ => ?_) (fun x g1 h => z_out C hQ h)
  clear h; obtain ⟨v_5, rfl, h⟩ := hk_
  show GW X E 2 g_4 17 [(0, .ref a0), (1, .int x1)] [.int v_5]
  intro H locs ls hR hS hl
  exact z_iret C hQ dX1_since_17 h H locs ls hR hS hl
set_option maxHeartbeats 4000000 in
theorem mX1_once {X : zX} {d : Nat} {g : zG} {K : Option Value → zG → Prop} {KX : String → zG → Prop} (hok : zOk X) (a0 : Nat) (x1 : Int32) (h : zCal X d yX1_isBound wX1_isBound [.int x1] g (fun r g_1 => ∃ v_2 : Int32, r = some (.int v_2) ∧ zbo v_2 ∧ zCal X d yX1_check wX1_check [.int v_2] g_1 (fun r g_3 => r = none ∧ zIs g_3 1 a0 ∧ zCal X d yX1_join wX1_join [.ref a0, .ref (zE X 7), .int 1, .int 0, .int x1] g_3 (fun r g_4 => ∃ v_5 : Int32, r = some (.int v_5) ∧ K (some (.int v_5)) g_4) KX) KX) KX) : zCal X (d + 1) yX1_once wX1_once [.ref a0, .int x1] g K KX := by
  refine z_enter hok pn_X1 (Nat.le_of_ble_eq_true rfl) (fun E C hQ => ?_)
  have C : zC X (d + 1) E RX1 cX1_once 2 (some .int) "once" := C
  show GW X E 2 g 0 [(0, .ref a0), (1, .int x1)] []
  intro H locs ls hR hS hl
  refine lv_iload_n C.x C.b dX1_once_0 rfl (lv_at hl 1 rfl) ?_
  refine z_callS C hR hS hl (n := 1) (y := yX1_isBound) (bytes := cX1_isBound) (maxL := 1) (rt := (some .boolean)) (As := [.int x1]) (rest := []) (lw_S q1340 q1341 q73 q1342) hdS_X1_isBound (by decide) rfl rfl (Nat.le_of_ble_eq_true rfl) dX1_once_1 h (fun r g_1 hk_ => ?_) (fun x g1 h => z_out C hQ h)
  clear h; obtain ⟨v_2, rfl, zb_, h⟩ := hk_
  show GW X E 2 g_1 4 [(0, .ref a0), (1, .int x1)] [.int v_2]
  intro H locs ls hR hS hl
  refine z_callS C hR hS hl (n := 1) (y := yX1_check) (bytes := cX1_check) (maxL := 1) (rt := none) (As := [.int v_2]) (rest := []) (lw_S q720 q721 q73 q722) hdS_X1_check (by decide) rfl rfl (Nat.le_of_ble_eq_true rfl) dX1_once_4 h (fun r g_3 hk_ => ?_) (fun x g1 h => z_out C hQ h)
  clear h; obtain ⟨rfl, h⟩ := hk_
  show GW X E 2 g_3 7 [(0, .ref a0), (1, .int x1)] []
  intro H locs ls hR hS hl
  refine lv_aload_n C.x C.b dX1_once_7 rfl (lv_at hl 0 rfl) ?_
  refine z_getsE C hS 7 (by decide) q1352 dX1_once_8 ?_
  refine lv_iconst (v := 1) C.x C.b dX1_once_11 (by decide) ?_
  refine lv_iconst (v := 0) C.x C.b dX1_once_12 (by decide) ?_
  refine lv_iload_n C.x C.b dX1_once_13 rfl (lv_at hl 1 rfl) ?_
  refine z_callV C hR hS hl (n := 4) (C1 := RX1) (T := TX1) (N := 12) (ci := 1) (y := yX1_join) (bytes := cX1_join) (maxL := 9) (rt := (some .int)) (As := [.ref (zE X 7), .int 1, .int 0, .int x1]) (rest := []) h.1 rfl (lw_V q1300 q1302 qs22 q73 q1303) hdV_X1_join (by decide) rfl rfl (Nat.le_of_ble_eq_true rfl) dX1_once_14 h.2 (fun r g_4 hk_ => ?_) (fun x g1 h => z_out C hQ h)
  clear h; obtain ⟨v_5, rfl, h⟩ := hk_
  show GW X E 2 g_4 17 [(0, .ref a0), (1, .int x1)] [.int v_5]
  intro H locs ls hR hS hl
  exact z_iret C hQ dX1_once_17 h H locs ls hR hS hl
set_option maxHeartbeats 4000000 in
theorem mX1_next {X : zX} {d : Nat} {g : zG} {K : Option Value → zG → Prop} {KX : String → zG → Prop} (hok : zOk X) (a0 : Nat) (h : zIs g 1 a0 ∧ zCal X d yX1_join wX1_join [.ref a0, .ref (zE X 8), .int 1, .int 0, .int 0] g (fun r g_1 => ∃ v_2 : Int32, r = some (.int v_2) ∧ K (some (.int v_2)) g_1) KX) : zCal X (d + 1) yX1_next wX1_next [.ref a0] g K KX := by
  refine z_enter hok pn_X1 (Nat.le_of_ble_eq_true rfl) (fun E C hQ => ?_)
  have C : zC X (d + 1) E RX1 cX1_next 1 (some .int) "next" := C
  show GW X E 1 g 0 [(0, .ref a0)] []
  intro H locs ls hR hS hl
  refine lv_aload_n C.x C.b dX1_next_0 rfl (lv_at hl 0 rfl) ?_
  refine z_getsE C hS 8 (by decide) q1360 dX1_next_1 ?_
  refine lv_iconst (v := 1) C.x C.b dX1_next_4 (by decide) ?_
  refine lv_iconst (v := 0) C.x C.b dX1_next_5 (by decide) ?_
  refine lv_iconst (v := 0) C.x C.b dX1_next_6 (by decide) ?_
  refine z_callV C hR hS hl (n := 4) (C1 := RX1) (T := TX1) (N := 12) (ci := 1) (y := yX1_join) (bytes := cX1_join) (maxL := 9) (rt := (some .int)) (As := [.ref (zE X 8), .int 1, .int 0, .int 0]) (rest := []) h.1 rfl (lw_V q1300 q1302 qs22 q73 q1303) hdV_X1_join (by decide) rfl rfl (Nat.le_of_ble_eq_true rfl) dX1_next_7 h.2 (fun r g_1 hk_ => ?_) (fun x g1 h => z_out C hQ h)
  clear h; obtain ⟨v_2, rfl, h⟩ := hk_
  show GW X E 1 g_1 10 [(0, .ref a0)] [.int v_2]
  intro H locs ls hR hS hl
  exact z_iret C hQ dX1_next_10 h H locs ls hR hS hl
set_option maxHeartbeats 4000000 in
theorem mX1_until {X : zX} {d : Nat} {g : zG} {K : Option Value → zG → Prop} {KX : String → zG → Prop} (hok : zOk X) (a0 : Nat) (x1 : Int32) (h : zCal X d yX1_isBound wX1_isBound [.int x1] g (fun r g_1 => ∃ v_2 : Int32, r = some (.int v_2) ∧ zbo v_2 ∧ zCal X d yX1_check wX1_check [.int v_2] g_1 (fun r g_3 => r = none ∧ zIs g_3 1 a0 ∧ zCal X d yX1_join wX1_join [.ref a0, .ref (zE X 9), .int 2, .int 0, .int x1] g_3 (fun r g_4 => ∃ v_5 : Int32, r = some (.int v_5) ∧ K (some (.int v_5)) g_4) KX) KX) KX) : zCal X (d + 1) yX1_until wX1_until [.ref a0, .int x1] g K KX := by
  refine z_enter hok pn_X1 (Nat.le_of_ble_eq_true rfl) (fun E C hQ => ?_)
  have C : zC X (d + 1) E RX1 cX1_until 2 (some .int) "until" := C
  show GW X E 2 g 0 [(0, .ref a0), (1, .int x1)] []
  intro H locs ls hR hS hl
  refine lv_iload_n C.x C.b dX1_until_0 rfl (lv_at hl 1 rfl) ?_
  refine z_callS C hR hS hl (n := 1) (y := yX1_isBound) (bytes := cX1_isBound) (maxL := 1) (rt := (some .boolean)) (As := [.int x1]) (rest := []) (lw_S q1340 q1341 q73 q1342) hdS_X1_isBound (by decide) rfl rfl (Nat.le_of_ble_eq_true rfl) dX1_until_1 h (fun r g_1 hk_ => ?_) (fun x g1 h => z_out C hQ h)
  clear h; obtain ⟨v_2, rfl, zb_, h⟩ := hk_
  show GW X E 2 g_1 4 [(0, .ref a0), (1, .int x1)] [.int v_2]
  intro H locs ls hR hS hl
  refine z_callS C hR hS hl (n := 1) (y := yX1_check) (bytes := cX1_check) (maxL := 1) (rt := none) (As := [.int v_2]) (rest := []) (lw_S q720 q721 q73 q722) hdS_X1_check (by decide) rfl rfl (Nat.le_of_ble_eq_true rfl) dX1_until_4 h (fun r g_3 hk_ => ?_) (fun x g1 h => z_out C hQ h)
  clear h; obtain ⟨rfl, h⟩ := hk_
  show GW X E 2 g_3 7 [(0, .ref a0), (1, .int x1)] []
  intro H locs ls hR hS hl
  refine lv_aload_n C.x C.b dX1_until_7 rfl (lv_at hl 0 rfl) ?_
  refine z_getsE C hS 9 (by decide) q1369 dX1_until_8 ?_
  refine lv_iconst (v := 2) C.x C.b dX1_until_11 (by decide) ?_
  refine lv_iconst (v := 0) C.x C.b dX1_until_12 (by decide) ?_
  refine lv_iload_n C.x C.b dX1_until_13 rfl (lv_at hl 1 rfl) ?_
  refine z_callV C hR hS hl (n := 4) (C1 := RX1) (T := TX1) (N := 12) (ci := 1) (y := yX1_join) (bytes := cX1_join) (maxL := 9) (rt := (some .int)) (As := [.ref (zE X 9), .int 2, .int 0, .int x1]) (rest := []) h.1 rfl (lw_V q1300 q1302 qs22 q73 q1303) hdV_X1_join (by decide) rfl rfl (Nat.le_of_ble_eq_true rfl) dX1_until_14 h.2 (fun r g_4 hk_ => ?_) (fun x g1 h => z_out C hQ h)
  clear h; obtain ⟨v_5, rfl, h⟩ := hk_
  show GW X E 2 g_4 17 [(0, .ref a0), (1, .int x1)] [.int v_5]
  intro H locs ls hR hS hl
  exact z_iret C hQ dX1_until_17 h H locs ls hR hS hl
set_option maxHeartbeats 4000000 in
theorem mX1_soon {X : zX} {d : Nat} {g : zG} {K : Option Value → zG → Prop} {KX : String → zG → Prop} (hok : zOk X) (a0 : Nat) (x1 : Int32) (h : zCal X d yX1_isBound wX1_isBound [.int x1] g (fun r g_1 => ∃ v_2 : Int32, r = some (.int v_2) ∧ zbo v_2 ∧ zCal X d yX1_check wX1_check [.int v_2] g_1 (fun r g_3 => r = none ∧ zIs g_3 1 a0 ∧ zCal X d yX1_join wX1_join [.ref a0, .ref (zE X 10), .int 1, .int 0, .int x1] g_3 (fun r g_4 => ∃ v_5 : Int32, r = some (.int v_5) ∧ K (some (.int v_5)) g_4) KX) KX) KX) : zCal X (d + 1) yX1_soon wX1_soon [.ref a0, .int x1] g K KX := by
  refine z_enter hok pn_X1 (Nat.le_of_ble_eq_true rfl) (fun E C hQ => ?_)
  have C : zC X (d + 1) E RX1 cX1_soon 2 (some .int) "soon" := C
  show GW X E 2 g 0 [(0, .ref a0), (1, .int x1)] []
  intro H locs ls hR hS hl
  refine lv_iload_n C.x C.b dX1_soon_0 rfl (lv_at hl 1 rfl) ?_
  refine z_callS C hR hS hl (n := 1) (y := yX1_isBound) (bytes := cX1_isBound) (maxL := 1) (rt := (some .boolean)) (As := [.int x1]) (rest := []) (lw_S q1340 q1341 q73 q1342) hdS_X1_isBound (by decide) rfl rfl (Nat.le_of_ble_eq_true rfl) dX1_soon_1 h (fun r g_1 hk_ => ?_) (fun x g1 h => z_out C hQ h)
  clear h; obtain ⟨v_2, rfl, zb_, h⟩ := hk_
  show GW X E 2 g_1 4 [(0, .ref a0), (1, .int x1)] [.int v_2]
  intro H locs ls hR hS hl
  refine z_callS C hR hS hl (n := 1) (y := yX1_check) (bytes := cX1_check) (maxL := 1) (rt := none) (As := [.int v_2]) (rest := []) (lw_S q720 q721 q73 q722) hdS_X1_check (by decide) rfl rfl (Nat.le_of_ble_eq_true rfl) dX1_soon_4 h (fun r g_3 hk_ => ?_) (fun x g1 h => z_out C hQ h)
  clear h; obtain ⟨rfl, h⟩ := hk_
  show GW X E 2 g_3 7 [(0, .ref a0), (1, .int x1)] []
  intro H locs ls hR hS hl
  refine lv_aload_n C.x C.b dX1_soon_7 rfl (lv_at hl 0 rfl) ?_
  refine z_getsE C hS 10 (by decide) q1378 dX1_soon_8 ?_
  refine lv_iconst (v := 1) C.x C.b dX1_soon_11 (by decide) ?_
  refine lv_iconst (v := 0) C.x C.b dX1_soon_12 (by decide) ?_
  refine lv_iload_n C.x C.b dX1_soon_13 rfl (lv_at hl 1 rfl) ?_
  refine z_callV C hR hS hl (n := 4) (C1 := RX1) (T := TX1) (N := 12) (ci := 1) (y := yX1_join) (bytes := cX1_join) (maxL := 9) (rt := (some .int)) (As := [.ref (zE X 10), .int 1, .int 0, .int x1]) (rest := []) h.1 rfl (lw_V q1300 q1302 qs22 q73 q1303) hdV_X1_join (by decide) rfl rfl (Nat.le_of_ble_eq_true rfl) dX1_soon_14 h.2 (fun r g_4 hk_ => ?_) (fun x g1 h => z_out C hQ h)
  clear h; obtain ⟨v_5, rfl, h⟩ := hk_
  show GW X E 2 g_4 17 [(0, .ref a0), (1, .int x1)] [.int v_5]
  intro H locs ls hR hS hl
  exact z_iret C hQ dX1_soon_17 h H locs ls hR hS hl
set_option maxHeartbeats 4000000 in
theorem mX1_many {X : zX} {d : Nat} {g : zG} {K : Option Value → zG → Prop} {KX : String → zG → Prop} (hok : zOk X) (a0 : Nat) (x1 : Int32) (x2 : Int32) (h : zCal X d yX1_isIn wX1_isIn [.int x1, .int 1, .int 80] g (fun r g_1 => ∃ v_2 : Int32, r = some (.int v_2) ∧ zbo v_2 ∧ (v_2 = 0 → zCal X d yX1_check wX1_check [.int 0] g_1 (fun r g_3 => r = none ∧ False) KX) ∧ (¬ v_2 = 0 → zCal X d yX1_isBound wX1_isBound [.int x2] g_1 (fun r g_4 => ∃ v_5 : Int32, r = some (.int v_5) ∧ zbo v_5 ∧ (v_5 = 0 → zCal X d yX1_check wX1_check [.int 0] g_4 (fun r g_6 => r = none ∧ False) KX) ∧ (¬ v_5 = 0 → zCal X d yX1_check wX1_check [.int 1] g_4 (fun r g_7 => r = none ∧ zIs g_7 1 a0 ∧ zCal X d yX1_join wX1_join [.ref a0, .ref (zE X 11), .int 1, .int x1, .int x2] g_7 (fun r g_8 => ∃ v_9 : Int32, r = some (.int v_9) ∧ K (some (.int v_9)) g_8) KX) KX)) KX)) KX) : zCal X (d + 1) yX1_many wX1_many [.ref a0, .int x1, .int x2] g K KX := by
  refine z_enter hok pn_X1 (Nat.le_of_ble_eq_true rfl) (fun E C hQ => ?_)
  have C : zC X (d + 1) E RX1 cX1_many 3 (some .int) "many" := C
  show GW X E 3 g 0 [(0, .ref a0), (1, .int x1), (2, .int x2)] []
  intro H locs ls hR hS hl
  refine lv_iload_n C.x C.b dX1_many_0 rfl (lv_at hl 1 rfl) ?_
  refine lv_iconst (v := 1) C.x C.b dX1_many_1 (by decide) ?_
  refine lv_bipush (v := 80) C.x C.b dX1_many_2 (by decide) ?_
  refine z_callS C hR hS hl (n := 3) (y := yX1_isIn) (bytes := cX1_isIn) (maxL := 3) (rt := (some .boolean)) (As := [.int x1, .int 1, .int 80]) (rest := []) (lw_S q701 q702 q73 q703) hdS_X1_isIn (by decide) rfl rfl (Nat.le_of_ble_eq_true rfl) dX1_many_4 h (fun r g_1 hk_ => ?_) (fun x g1 h => z_out C hQ h)
  clear h; obtain ⟨v_2, rfl, zb_, h⟩ := hk_
  show GW X E 3 g_1 7 [(0, .ref a0), (1, .int x1), (2, .int x2)] [.int v_2]
  intro H locs ls hR hS hl
  obtain ⟨h1, h2⟩ := h
  refine lv_if_eq (tgt := 21) C.x C.b dX1_many_7 (by decide) (fun c => ?_) (fun c => ?_)
  · have h := h1 c; clear h1 h2
    refine lv_iconst (v := 0) C.x C.b dX1_many_21 (by decide) ?_
    refine z_callS C hR hS hl (n := 1) (y := yX1_check) (bytes := cX1_check) (maxL := 1) (rt := none) (As := [.int 0]) (rest := []) (lw_S q720 q721 q73 q722) hdS_X1_check (by decide) rfl rfl (Nat.le_of_ble_eq_true rfl) dX1_many_22 h (fun r g_3 hk_ => ?_) (fun x g1 h => z_out C hQ h)
    exact hk_.2.elim
  · have h := h2 c; clear h1 h2
    refine lv_iload_n C.x C.b dX1_many_10 rfl (lv_at hl 2 rfl) ?_
    refine z_callS C hR hS hl (n := 1) (y := yX1_isBound) (bytes := cX1_isBound) (maxL := 1) (rt := (some .boolean)) (As := [.int x2]) (rest := []) (lw_S q1340 q1341 q73 q1342) hdS_X1_isBound (by decide) rfl rfl (Nat.le_of_ble_eq_true rfl) dX1_many_11 h (fun r g_4 hk_ => ?_) (fun x g1 h => z_out C hQ h)
    clear h; obtain ⟨v_5, rfl, zb_, h⟩ := hk_
    show GW X E 3 g_4 14 [(0, .ref a0), (1, .int x1), (2, .int x2)] [.int v_5]
    intro H locs ls hR hS hl
    obtain ⟨h1, h2⟩ := h
    refine lv_if_eq (tgt := 21) C.x C.b dX1_many_14 (by decide) (fun c => ?_) (fun c => ?_)
    · have h := h1 c; clear h1 h2
      refine lv_iconst (v := 0) C.x C.b dX1_many_21 (by decide) ?_
      refine z_callS C hR hS hl (n := 1) (y := yX1_check) (bytes := cX1_check) (maxL := 1) (rt := none) (As := [.int 0]) (rest := []) (lw_S q720 q721 q73 q722) hdS_X1_check (by decide) rfl rfl (Nat.le_of_ble_eq_true rfl) dX1_many_22 h (fun r g_6 hk_ => ?_) (fun x g1 h => z_out C hQ h)
      exact hk_.2.elim
    · have h := h2 c; clear h1 h2
      refine lv_iconst (v := 1) C.x C.b dX1_many_17 (by decide) ?_
      refine lv_goto (tgt := 22) C.x C.b dX1_many_18 (by decide) ?_
      refine z_callS C hR hS hl (n := 1) (y := yX1_check) (bytes := cX1_check) (maxL := 1) (rt := none) (As := [.int 1]) (rest := []) (lw_S q720 q721 q73 q722) hdS_X1_check (by decide) rfl rfl (Nat.le_of_ble_eq_true rfl) dX1_many_22 h (fun r g_7 hk_ => ?_) (fun x g1 h => z_out C hQ h)
      clear h; obtain ⟨rfl, h⟩ := hk_
      show GW X E 3 g_7 25 [(0, .ref a0), (1, .int x1), (2, .int x2)] []
      intro H locs ls hR hS hl
      refine lv_aload_n C.x C.b dX1_many_25 rfl (lv_at hl 0 rfl) ?_
      refine z_getsE C hS 11 (by decide) q1386 dX1_many_26 ?_
      refine lv_iconst (v := 1) C.x C.b dX1_many_29 (by decide) ?_
      refine lv_iload_n C.x C.b dX1_many_30 rfl (lv_at hl 1 rfl) ?_
      refine lv_iload_n C.x C.b dX1_many_31 rfl (lv_at hl 2 rfl) ?_
      refine z_callV C hR hS hl (n := 4) (C1 := RX1) (T := TX1) (N := 12) (ci := 1) (y := yX1_join) (bytes := cX1_join) (maxL := 9) (rt := (some .int)) (As := [.ref (zE X 11), .int 1, .int x1, .int x2]) (rest := []) h.1 rfl (lw_V q1300 q1302 qs22 q73 q1303) hdV_X1_join (by decide) rfl rfl (Nat.le_of_ble_eq_true rfl) dX1_many_32 h.2 (fun r g_8 hk_ => ?_) (fun x g1 h => z_out C hQ h)
      clear h; obtain ⟨v_9, rfl, h⟩ := hk_
      show GW X E 3 g_8 35 [(0, .ref a0), (1, .int x1), (2, .int x2)] [.int v_9]
      intro H locs ls hR hS hl
      exact z_iret C hQ dX1_many_35 h H locs ls hR hS hl
theorem hdS_X8_init : yX8_init.cls ≠ "java/lang/invoke/MethodHandle" ∧ yX8_init.cls ≠ "java/lang/invoke/VarHandle" ∧ (parseMethodDescriptor yX8_init.desc).map (fun d => d.parameters.length) = some 4 := by decide +kernel
set_option maxHeartbeats 4000000 in
theorem mX1_watch {X : zX} {d : Nat} {g : zG} {K : Option Value → zG → Prop} {KX : String → zG → Prop} (hok : zOk X) (a0 : Nat) (x1 : Int32) (x2 : Int32) (h : ∃ (fs_1 : List Value) (a_2 : Nat), zGo g 1 a0 = some fs_1 ∧ fs_1[8]? = some (.ref a_2) ∧ zIs g 0 a_2 ∧ zCal X d yJ2_size wJ2_size [.ref a_2] g (fun r g_3 => ∃ v_4 : Int32, r = some (.int v_4) ∧ (¬ v_4 = 1 → zCal X d yX1_allow wX1_allow [.int 0] g_3 (fun r g_5 => r = none ∧ False) KX) ∧ (v_4 = 1 → ∃ (fs_6 : List Value) (a_7 : Nat), zGo g_3 1 a0 = some fs_6 ∧ fs_6[9]? = some (.ref a_7) ∧ zIs g_3 0 a_7 ∧ zCal X d yJ2_size wJ2_size [.ref a_7] g_3 (fun r g_8 => ∃ v_9 : Int32, r = some (.int v_9) ∧ (6 ≤ v_9 → zCal X d yX1_allow wX1_allow [.int 0] g_8 (fun r g_10 => r = none ∧ False) KX) ∧ (¬ 6 ≤ v_9 → zCal X d yX1_allow wX1_allow [.int 1] g_8 (fun r g_11 => r = none ∧ ∃ (fs_12 : List Value) (a_13 : Nat), zGo g_11 1 a0 = some fs_12 ∧ fs_12[9]? = some (.ref a_13) ∧ zGz g_11 + 1 + 8 ≤ zz X ∧ ∀ a_14 : Nat, zFr g_11 a_14 → ∀ g_15 : zG, g_15 = zSz (zSo g_11 8 a_14 [.null, .null, .null, .int 0, .int 0, .null, .int 0, .null]) (zGz g_11 + 1 + 8) → ∃ (fs_16 : List Value) (a_17 : Nat), zGo g_15 1 a0 = some fs_16 ∧ fs_16[8]? = some (.ref a_17) ∧ zIs g_15 0 a_17 ∧ zCal X d yJ2_remove wJ2_remove [.ref a_17, .int 0] g_15 (fun r g_18 => ∃ r_19 : Option Nat, r = some (va_rf r_19) ∧ ∃ a_20 : Nat, r_19 = some a_20 ∧ zIs g_18 7 a_20 ∧ zCal X d yX8_init wX8_init [.ref a_14, .ref a0, .ref a_20, .int x1, .int x2] g_18 (fun r g_21 => r = none ∧ zIs g_21 0 a_13 ∧ zCal X d yJ2_add wJ2_add [.ref a_13, .ref a_14] g_21 (fun r g_22 => ∃ v_23 : Int32, r = some (.int v_23) ∧ zbo v_23 ∧ zIs g_22 1 a0 ∧ zCal X d yX1_find wX1_find [.ref a0] g_22 (fun r g_24 => r = none ∧ ∃ (fs_25 : List Value) (a_26 : Nat), zGo g_24 1 a0 = some fs_25 ∧ fs_25[9]? = some (.ref a_26) ∧ zIs g_24 0 a_26 ∧ zCal X d yJ2_size wJ2_size [.ref a_26] g_24 (fun r g_27 => ∃ v_28 : Int32, r = some (.int v_28) ∧ K (some (.int (v_28 - 1))) g_27) KX) KX) KX) KX) KX) KX)) KX)) KX) : zCal X (d + 1) yX1_watch wX1_watch [.ref a0, .int x1, .int x2] g K KX := by
  refine z_enter hok pn_X1 (Nat.le_of_ble_eq_true rfl) (fun E C hQ => ?_)
  have C : zC X (d + 1) E RX1 cX1_watch 3 (some .int) "watch" := C
  show GW X E 3 g 0 [(0, .ref a0), (1, .int x1), (2, .int x2)] []
  intro H locs ls hR hS hl
  refine lv_aload_n C.x C.b dX1_watch_0 rfl (lv_at hl 0 rfl) ?_
  obtain ⟨fs_1, a_2, q1, q2, h⟩ := h
  refine z_get C hR q1 rfl (ci := 1) rfl in_X1 8 (by decide) q256 (fun _ h => h) q2 dX1_watch_1 ?_
  refine z_callF C hR hS hl (n := 0) (C1 := RJ2) (T := TJ2) (N := 3) (ci := 0) (y := yJ2_size) (bytes := cJ2_size) (maxL := 1) (rt := (some .int)) (As := []) (rest := []) (x := ⟨"java/util/List", "size", "()I"⟩) h.1 rfl (lw_F q291 q294 q296 q76 q298) ⟨C.ok.2.1 _ q293, C.ok.2.1 _ q292, C.ok.2.1 _ q297, C.ok.2.1 _ q295, C.ok.2.1 _ q174⟩ hdF_J2_size (by decide) rfl rfl (Nat.le_of_ble_eq_true rfl) dX1_watch_4 h.2 (fun r g_3 hk_ => ?_) (fun x g1 h => z_out C hQ h)
  clear h; obtain ⟨v_4, rfl, h⟩ := hk_
  show GW X E 3 g_3 9 [(0, .ref a0), (1, .int x1), (2, .int x2)] [.int v_4]
  intro H locs ls hR hS hl
  refine lv_iconst (v := 1) C.x C.b dX1_watch_9 (by decide) ?_
  obtain ⟨h1, h2⟩ := h
  refine lv_icmp_ne (tgt := 31) C.x C.b dX1_watch_10 (by decide) (fun c => ?_) (fun c => ?_)
  · have h := h1 c; clear h1 h2
    refine lv_iconst (v := 0) C.x C.b dX1_watch_31 (by decide) ?_
    refine z_callS C hR hS hl (n := 1) (y := yX1_allow) (bytes := cX1_allow) (maxL := 1) (rt := none) (As := [.int 0]) (rest := []) (lw_S q758 q759 q73 q760) hdS_X1_allow (by decide) rfl rfl (Nat.le_of_ble_eq_true rfl) dX1_watch_32 h (fun r g_5 hk_ => ?_) (fun x g1 h => z_out C hQ h)
    exact hk_.2.elim
  · have h := h2 c; clear h1 h2
    refine lv_aload_n C.x C.b dX1_watch_13 rfl (lv_at hl 0 rfl) ?_
    obtain ⟨fs_6, a_7, q1, q2, h⟩ := h
    refine z_get C hR q1 rfl (ci := 1) rfl in_X1 9 (by decide) q257 (fun _ h => h) q2 dX1_watch_14 ?_
    refine z_callF C hR hS hl (n := 0) (C1 := RJ2) (T := TJ2) (N := 3) (ci := 0) (y := yJ2_size) (bytes := cJ2_size) (maxL := 1) (rt := (some .int)) (As := []) (rest := []) (x := ⟨"java/util/List", "size", "()I"⟩) h.1 rfl (lw_F q291 q294 q296 q76 q298) ⟨C.ok.2.1 _ q293, C.ok.2.1 _ q292, C.ok.2.1 _ q297, C.ok.2.1 _ q295, C.ok.2.1 _ q174⟩ hdF_J2_size (by decide) rfl rfl (Nat.le_of_ble_eq_true rfl) dX1_watch_17 h.2 (fun r g_8 hk_ => ?_) (fun x g1 h => z_out C hQ h)
    clear h; obtain ⟨v_9, rfl, h⟩ := hk_
    show GW X E 3 g_8 22 [(0, .ref a0), (1, .int x1), (2, .int x2)] [.int v_9]
    intro H locs ls hR hS hl
    refine lv_bipush (v := 6) C.x C.b dX1_watch_22 (by decide) ?_
    obtain ⟨h1, h2⟩ := h
    refine lv_icmp_ge (tgt := 31) C.x C.b dX1_watch_24 (by decide) (fun c => ?_) (fun c => ?_)
    · have h := h1 c; clear h1 h2
      refine lv_iconst (v := 0) C.x C.b dX1_watch_31 (by decide) ?_
      refine z_callS C hR hS hl (n := 1) (y := yX1_allow) (bytes := cX1_allow) (maxL := 1) (rt := none) (As := [.int 0]) (rest := []) (lw_S q758 q759 q73 q760) hdS_X1_allow (by decide) rfl rfl (Nat.le_of_ble_eq_true rfl) dX1_watch_32 h (fun r g_10 hk_ => ?_) (fun x g1 h => z_out C hQ h)
      exact hk_.2.elim
    · have h := h2 c; clear h1 h2
      refine lv_iconst (v := 1) C.x C.b dX1_watch_27 (by decide) ?_
      refine lv_goto (tgt := 32) C.x C.b dX1_watch_28 (by decide) ?_
      refine z_callS C hR hS hl (n := 1) (y := yX1_allow) (bytes := cX1_allow) (maxL := 1) (rt := none) (As := [.int 1]) (rest := []) (lw_S q758 q759 q73 q760) hdS_X1_allow (by decide) rfl rfl (Nat.le_of_ble_eq_true rfl) dX1_watch_32 h (fun r g_11 hk_ => ?_) (fun x g1 h => z_out C hQ h)
      clear h; obtain ⟨rfl, h⟩ := hk_
      show GW X E 3 g_11 35 [(0, .ref a0), (1, .int x1), (2, .int x2)] []
      intro H locs ls hR hS hl
      refine lv_aload_n C.x C.b dX1_watch_35 rfl (lv_at hl 0 rfl) ?_
      obtain ⟨fs_12, a_13, q1, q2, h⟩ := h
      refine z_get C hR q1 rfl (ci := 1) rfl in_X1 9 (by decide) q257 (fun _ h => h) q2 dX1_watch_36 ?_
      obtain ⟨q1, h⟩ := h
      refine z_new C hR hS 8 rfl (ci := 8) rfl in_X8 tyX8 tyX8_ok q375 q1128 q107 (fs := [.null, .null, .null, .int 0, .int 0, .null, .int 0, .null]) zdf_X8 q1 dX1_watch_39 (fun a_14 hf H hR hS => ?_)
      have h := h a_14 hf _ rfl
      generalize zSz (zSo g_11 8 a_14 [.null, .null, .null, .int 0, .int 0, .null, .int 0, .null]) (zGz g_11 + 1 + 8) = g_15 at h hR
      refine lv_dup C.x C.b dX1_watch_42 rfl ?_
      refine lv_aload_n C.x C.b dX1_watch_43 rfl (lv_at hl 0 rfl) ?_
      refine lv_aload_n C.x C.b dX1_watch_44 rfl (lv_at hl 0 rfl) ?_
      obtain ⟨fs_16, a_17, q1, q2, h⟩ := h
      refine z_get C hR q1 rfl (ci := 1) rfl in_X1 8 (by decide) q256 (fun _ h => h) q2 dX1_watch_45 ?_
      refine lv_iconst (v := 0) C.x C.b dX1_watch_48 (by decide) ?_
      refine z_callF C hR hS hl (n := 1) (C1 := RJ2) (T := TJ2) (N := 3) (ci := 0) (y := yJ2_remove) (bytes := cJ2_remove) (maxL := 4) (rt := (some (.object "java/lang/Object"))) (As := [.int 0]) (rest := [.ref a0, .ref a_14, .ref a_14, .ref a_13]) (x := ⟨"java/util/List", "remove", "(I)Ljava/lang/Object;"⟩) h.1 rfl (lw_F q1305 q603 q605 q76 q607) ⟨C.ok.2.1 _ q602, C.ok.2.1 _ q601, C.ok.2.1 _ q606, C.ok.2.1 _ q604, C.ok.2.1 _ q174⟩ hdF_J2_remove (by decide) rfl rfl (Nat.le_of_ble_eq_true rfl) dX1_watch_49 h.2 (fun r g_18 hk_ => ?_) (fun x g1 h => z_out C hQ h)
      clear h; obtain ⟨r_19, rfl, h⟩ := hk_
      show GW X E 3 g_18 54 [(0, .ref a0), (1, .int x1), (2, .int x2)] [va_rf r_19, .ref a0, .ref a_14, .ref a_14, .ref a_13]
      intro H locs ls hR hS hl
      obtain ⟨a_20, e_, h⟩ := h; subst e_
      have hl : lv_has ls 3 [(0, .ref a0), (1, .int x1), (2, .int x2)] := by assumption
      show zV X E H locs (F0 (zm E) 54 ls [.ref a_20, .ref a0, .ref a_14, .ref a_14, .ref a_13])
      refine z_castS C hR (ci := 7) (C1 := RX7) (T := TX7) (N := 7) h.1 rfl q376 dX1_watch_54 ?_
      have h := h.2
      refine lv_iload_n C.x C.b dX1_watch_57 rfl (lv_at hl 1 rfl) ?_
      refine lv_iload_n C.x C.b dX1_watch_58 rfl (lv_at hl 2 rfl) ?_
      refine z_callI C hR hS hl (n := 4) (y := yX8_init) (bytes := cX8_init) (maxL := 5) (As := [.ref a0, .ref a_20, .int x1, .int x2]) (rest := [.ref a_14, .ref a_13]) (lw_meth q1397) q107 q1395 q1396 rfl hdS_X8_init (by decide) rfl rfl (Nat.le_of_ble_eq_true rfl) dX1_watch_59 h (fun r g_21 hk_ => ?_) (fun x g1 h => z_out C hQ h)
      clear h; obtain ⟨rfl, h⟩ := hk_
      show GW X E 3 g_21 62 [(0, .ref a0), (1, .int x1), (2, .int x2)] [.ref a_14, .ref a_13]
      intro H locs ls hR hS hl
      refine z_callF C hR hS hl (n := 1) (C1 := RJ2) (T := TJ2) (N := 3) (ci := 0) (y := yJ2_add) (bytes := cJ2_add) (maxL := 2) (rt := (some .boolean)) (As := [.ref a_14]) (rest := []) (x := ⟨"java/util/List", "add", "(Ljava/lang/Object;)Z"⟩) h.1 rfl (lw_F q171 q175 q177 q76 q179) ⟨C.ok.2.1 _ q173, C.ok.2.1 _ q172, C.ok.2.1 _ q178, C.ok.2.1 _ q176, C.ok.2.1 _ q174⟩ hdF_J2_add (by decide) rfl rfl (Nat.le_of_ble_eq_true rfl) dX1_watch_62 h.2 (fun r g_22 hk_ => ?_) (fun x g1 h => z_out C hQ h)
      clear h; obtain ⟨v_23, rfl, zb_, h⟩ := hk_
      show GW X E 3 g_22 67 [(0, .ref a0), (1, .int x1), (2, .int x2)] [.int v_23]
      intro H locs ls hR hS hl
      refine lv_pop C.x C.b dX1_watch_67 rfl ?_
      refine lv_aload_n C.x C.b dX1_watch_68 rfl (lv_at hl 0 rfl) ?_
      refine z_callV C hR hS hl (n := 0) (C1 := RX1) (T := TX1) (N := 12) (ci := 1) (y := yX1_find) (bytes := cX1_find) (maxL := 3) (rt := none) (As := []) (rest := []) h.1 rfl (lw_V q1113 q1115 qs17 q73 q1116) hdV_X1_find (by decide) rfl rfl (Nat.le_of_ble_eq_true rfl) dX1_watch_69 h.2 (fun r g_24 hk_ => ?_) (fun x g1 h => z_out C hQ h)
      clear h; obtain ⟨rfl, h⟩ := hk_
      show GW X E 3 g_24 72 [(0, .ref a0), (1, .int x1), (2, .int x2)] []
      intro H locs ls hR hS hl
      refine lv_aload_n C.x C.b dX1_watch_72 rfl (lv_at hl 0 rfl) ?_
      obtain ⟨fs_25, a_26, q1, q2, h⟩ := h
      refine z_get C hR q1 rfl (ci := 1) rfl in_X1 9 (by decide) q257 (fun _ h => h) q2 dX1_watch_73 ?_
      refine z_callF C hR hS hl (n := 0) (C1 := RJ2) (T := TJ2) (N := 3) (ci := 0) (y := yJ2_size) (bytes := cJ2_size) (maxL := 1) (rt := (some .int)) (As := []) (rest := []) (x := ⟨"java/util/List", "size", "()I"⟩) h.1 rfl (lw_F q291 q294 q296 q76 q298) ⟨C.ok.2.1 _ q293, C.ok.2.1 _ q292, C.ok.2.1 _ q297, C.ok.2.1 _ q295, C.ok.2.1 _ q174⟩ hdF_J2_size (by decide) rfl rfl (Nat.le_of_ble_eq_true rfl) dX1_watch_76 h.2 (fun r g_27 hk_ => ?_) (fun x g1 h => z_out C hQ h)
      clear h; obtain ⟨v_28, rfl, h⟩ := hk_
      show GW X E 3 g_27 81 [(0, .ref a0), (1, .int x1), (2, .int x2)] [.int v_28]
      intro H locs ls hR hS hl
      refine lv_iconst (v := 1) C.x C.b dX1_watch_81 (by decide) ?_
      refine lv_isub C.x C.b dX1_watch_82 ?_
      exact z_iret C hQ dX1_watch_83 h H locs ls hR hS hl
set_option maxHeartbeats 4000000 in
theorem mX1_eventAt {X : zX} {d : Nat} {g : zG} {K : Option Value → zG → Prop} {KX : String → zG → Prop} (hok : zOk X) (a0 : Nat) (x1 : Int32) (h : ∃ (fs_1 : List Value) (a_2 : Nat), zGo g 1 a0 = some fs_1 ∧ fs_1[3]? = some (.ref a_2) ∧ zIs g 0 a_2 ∧ zCal X d yJ2_size wJ2_size [.ref a_2] g (fun r g_3 => ∃ v_4 : Int32, r = some (.int v_4) ∧ zCal X d yX1_isIn wX1_isIn [.int x1, .int 0, .int (v_4 - 1)] g_3 (fun r g_5 => ∃ v_6 : Int32, r = some (.int v_6) ∧ zbo v_6 ∧ zCal X d yX1_place wX1_place [.int v_6] g_5 (fun r g_7 => r = none ∧ ∃ (fs_8 : List Value) (a_9 : Nat), zGo g_7 1 a0 = some fs_8 ∧ fs_8[3]? = some (.ref a_9) ∧ zIs g_7 0 a_9 ∧ zCal X d yJ2_get wJ2_get [.ref a_9, .int x1] g_7 (fun r g_10 => ∃ r_11 : Option Nat, r = some (va_rf r_11) ∧ ∃ a_12 : Nat, r_11 = some a_12 ∧ zIs g_10 4 a_12 ∧ ∃ (fs_13 : List Value) (v_14 : Int32), zGo g_10 4 a_12 = some fs_13 ∧ fs_13[0]? = some (.int v_14) ∧ K (some (.int v_14)) g_10) KX) KX) KX) KX) : zCal X (d + 1) yX1_eventAt wX1_eventAt [.ref a0, .int x1] g K KX := by
  refine z_enter hok pn_X1 (Nat.le_of_ble_eq_true rfl) (fun E C hQ => ?_)
  have C : zC X (d + 1) E RX1 cX1_eventAt 2 (some .int) "eventAt" := C
  show GW X E 2 g 0 [(0, .ref a0), (1, .int x1)] []
  intro H locs ls hR hS hl
  refine lv_iload_n C.x C.b dX1_eventAt_0 rfl (lv_at hl 1 rfl) ?_
  refine lv_iconst (v := 0) C.x C.b dX1_eventAt_1 (by decide) ?_
  refine lv_aload_n C.x C.b dX1_eventAt_2 rfl (lv_at hl 0 rfl) ?_
  obtain ⟨fs_1, a_2, q1, q2, h⟩ := h
  refine z_get C hR q1 rfl (ci := 1) rfl in_X1 3 (by decide) q248 (fun _ h => h) q2 dX1_eventAt_3 ?_
  refine z_callF C hR hS hl (n := 0) (C1 := RJ2) (T := TJ2) (N := 3) (ci := 0) (y := yJ2_size) (bytes := cJ2_size) (maxL := 1) (rt := (some .int)) (As := []) (rest := [.int 0, .int x1]) (x := ⟨"java/util/List", "size", "()I"⟩) h.1 rfl (lw_F q291 q294 q296 q76 q298) ⟨C.ok.2.1 _ q293, C.ok.2.1 _ q292, C.ok.2.1 _ q297, C.ok.2.1 _ q295, C.ok.2.1 _ q174⟩ hdF_J2_size (by decide) rfl rfl (Nat.le_of_ble_eq_true rfl) dX1_eventAt_6 h.2 (fun r g_3 hk_ => ?_) (fun x g1 h => z_out C hQ h)
  clear h; obtain ⟨v_4, rfl, h⟩ := hk_
  show GW X E 2 g_3 11 [(0, .ref a0), (1, .int x1)] [.int v_4, .int 0, .int x1]
  intro H locs ls hR hS hl
  refine lv_iconst (v := 1) C.x C.b dX1_eventAt_11 (by decide) ?_
  refine lv_isub C.x C.b dX1_eventAt_12 ?_
  refine z_callS C hR hS hl (n := 3) (y := yX1_isIn) (bytes := cX1_isIn) (maxL := 3) (rt := (some .boolean)) (As := [.int x1, .int 0, .int (v_4 - 1)]) (rest := []) (lw_S q701 q702 q73 q703) hdS_X1_isIn (by decide) rfl rfl (Nat.le_of_ble_eq_true rfl) dX1_eventAt_13 h (fun r g_5 hk_ => ?_) (fun x g1 h => z_out C hQ h)
  clear h; obtain ⟨v_6, rfl, zb_, h⟩ := hk_
  show GW X E 2 g_5 16 [(0, .ref a0), (1, .int x1)] [.int v_6]
  intro H locs ls hR hS hl
  refine z_callS C hR hS hl (n := 1) (y := yX1_place) (bytes := cX1_place) (maxL := 1) (rt := none) (As := [.int v_6]) (rest := []) (lw_S q704 q705 q73 q706) hdS_X1_place (by decide) rfl rfl (Nat.le_of_ble_eq_true rfl) dX1_eventAt_16 h (fun r g_7 hk_ => ?_) (fun x g1 h => z_out C hQ h)
  clear h; obtain ⟨rfl, h⟩ := hk_
  show GW X E 2 g_7 19 [(0, .ref a0), (1, .int x1)] []
  intro H locs ls hR hS hl
  refine lv_aload_n C.x C.b dX1_eventAt_19 rfl (lv_at hl 0 rfl) ?_
  obtain ⟨fs_8, a_9, q1, q2, h⟩ := h
  refine z_get C hR q1 rfl (ci := 1) rfl in_X1 3 (by decide) q248 (fun _ h => h) q2 dX1_eventAt_20 ?_
  refine lv_iload_n C.x C.b dX1_eventAt_23 rfl (lv_at hl 1 rfl) ?_
  refine z_callF C hR hS hl (n := 1) (C1 := RJ2) (T := TJ2) (N := 3) (ci := 0) (y := yJ2_get) (bytes := cJ2_get) (maxL := 2) (rt := (some (.object "java/lang/Object"))) (As := [.int x1]) (rest := []) (x := ⟨"java/util/List", "get", "(I)Ljava/lang/Object;"⟩) h.1 rfl (lw_F q378 q381 q383 q76 q385) ⟨C.ok.2.1 _ q380, C.ok.2.1 _ q379, C.ok.2.1 _ q384, C.ok.2.1 _ q382, C.ok.2.1 _ q174⟩ hdF_J2_get (by decide) rfl rfl (Nat.le_of_ble_eq_true rfl) dX1_eventAt_24 h.2 (fun r g_10 hk_ => ?_) (fun x g1 h => z_out C hQ h)
  clear h; obtain ⟨r_11, rfl, h⟩ := hk_
  show GW X E 2 g_10 29 [(0, .ref a0), (1, .int x1)] [va_rf r_11]
  intro H locs ls hR hS hl
  obtain ⟨a_12, e_, h⟩ := h; subst e_
  have hl : lv_has ls 2 [(0, .ref a0), (1, .int x1)] := by assumption
  show zV X E H locs (F0 (zm E) 29 ls [.ref a_12])
  refine z_castS C hR (ci := 4) (C1 := RX4) (T := TX4) (N := 7) h.1 rfl q455 dX1_eventAt_29 ?_
  have h := h.2
  obtain ⟨fs_13, v_14, q1, q2, h⟩ := h
  refine z_getN C hR q1 rfl (ci := 4) rfl in_X4 0 (by decide) q784 (fun _ h => h) q2 dX1_eventAt_32 ?_
  exact z_iret C hQ dX1_eventAt_35 h H locs ls hR hS hl
set_option maxHeartbeats 4000000 in
theorem mX1_its {X : zX} {d : Nat} {g : zG} {K : Option Value → zG → Prop} {KX : String → zG → Prop} (hok : zOk X) (a0 : Nat) (x1 : Int32) (h : ∃ (fs_1 : List Value) (a_2 : Nat), zGo g 1 a0 = some fs_1 ∧ fs_1[2]? = some (.ref a_2) ∧ zIs g 0 a_2 ∧ zCal X d yJ2_size wJ2_size [.ref a_2] g (fun r g_3 => ∃ v_4 : Int32, r = some (.int v_4) ∧ zCal X d yX1_isIn wX1_isIn [.int x1, .int 0, .int (v_4 - 1)] g_3 (fun r g_5 => ∃ v_6 : Int32, r = some (.int v_6) ∧ zbo v_6 ∧ zCal X d yX1_place wX1_place [.int v_6] g_5 (fun r g_7 => r = none ∧ ∃ (fs_8 : List Value) (a_9 : Nat), zGo g_7 1 a0 = some fs_8 ∧ fs_8[2]? = some (.ref a_9) ∧ zIs g_7 0 a_9 ∧ zCal X d yJ2_get wJ2_get [.ref a_9, .int x1] g_7 (fun r g_10 => ∃ r_11 : Option Nat, r = some (va_rf r_11) ∧ ∃ a_12 : Nat, r_11 = some a_12 ∧ zIs g_10 4 a_12 ∧ K (some (.ref a_12)) g_10) KX) KX) KX) KX) : zCal X (d + 1) yX1_its wX1_its [.ref a0, .int x1] g K KX := by
  refine z_enter hok pn_X1 (Nat.le_of_ble_eq_true rfl) (fun E C hQ => ?_)
  have C : zC X (d + 1) E RX1 cX1_its 2 (some (.object "LogGrammar$Event")) "its" := C
  show GW X E 2 g 0 [(0, .ref a0), (1, .int x1)] []
  intro H locs ls hR hS hl
  refine lv_iload_n C.x C.b dX1_its_0 rfl (lv_at hl 1 rfl) ?_
  refine lv_iconst (v := 0) C.x C.b dX1_its_1 (by decide) ?_
  refine lv_aload_n C.x C.b dX1_its_2 rfl (lv_at hl 0 rfl) ?_
  obtain ⟨fs_1, a_2, q1, q2, h⟩ := h
  refine z_get C hR q1 rfl (ci := 1) rfl in_X1 2 (by decide) q245 (fun _ h => h) q2 dX1_its_3 ?_
  refine z_callF C hR hS hl (n := 0) (C1 := RJ2) (T := TJ2) (N := 3) (ci := 0) (y := yJ2_size) (bytes := cJ2_size) (maxL := 1) (rt := (some .int)) (As := []) (rest := [.int 0, .int x1]) (x := ⟨"java/util/List", "size", "()I"⟩) h.1 rfl (lw_F q291 q294 q296 q76 q298) ⟨C.ok.2.1 _ q293, C.ok.2.1 _ q292, C.ok.2.1 _ q297, C.ok.2.1 _ q295, C.ok.2.1 _ q174⟩ hdF_J2_size (by decide) rfl rfl (Nat.le_of_ble_eq_true rfl) dX1_its_6 h.2 (fun r g_3 hk_ => ?_) (fun x g1 h => z_out C hQ h)
  clear h; obtain ⟨v_4, rfl, h⟩ := hk_
  show GW X E 2 g_3 11 [(0, .ref a0), (1, .int x1)] [.int v_4, .int 0, .int x1]
  intro H locs ls hR hS hl
  refine lv_iconst (v := 1) C.x C.b dX1_its_11 (by decide) ?_
  refine lv_isub C.x C.b dX1_its_12 ?_
  refine z_callS C hR hS hl (n := 3) (y := yX1_isIn) (bytes := cX1_isIn) (maxL := 3) (rt := (some .boolean)) (As := [.int x1, .int 0, .int (v_4 - 1)]) (rest := []) (lw_S q701 q702 q73 q703) hdS_X1_isIn (by decide) rfl rfl (Nat.le_of_ble_eq_true rfl) dX1_its_13 h (fun r g_5 hk_ => ?_) (fun x g1 h => z_out C hQ h)
  clear h; obtain ⟨v_6, rfl, zb_, h⟩ := hk_
  show GW X E 2 g_5 16 [(0, .ref a0), (1, .int x1)] [.int v_6]
  intro H locs ls hR hS hl
  refine z_callS C hR hS hl (n := 1) (y := yX1_place) (bytes := cX1_place) (maxL := 1) (rt := none) (As := [.int v_6]) (rest := []) (lw_S q704 q705 q73 q706) hdS_X1_place (by decide) rfl rfl (Nat.le_of_ble_eq_true rfl) dX1_its_16 h (fun r g_7 hk_ => ?_) (fun x g1 h => z_out C hQ h)
  clear h; obtain ⟨rfl, h⟩ := hk_
  show GW X E 2 g_7 19 [(0, .ref a0), (1, .int x1)] []
  intro H locs ls hR hS hl
  refine lv_aload_n C.x C.b dX1_its_19 rfl (lv_at hl 0 rfl) ?_
  obtain ⟨fs_8, a_9, q1, q2, h⟩ := h
  refine z_get C hR q1 rfl (ci := 1) rfl in_X1 2 (by decide) q245 (fun _ h => h) q2 dX1_its_20 ?_
  refine lv_iload_n C.x C.b dX1_its_23 rfl (lv_at hl 1 rfl) ?_
  refine z_callF C hR hS hl (n := 1) (C1 := RJ2) (T := TJ2) (N := 3) (ci := 0) (y := yJ2_get) (bytes := cJ2_get) (maxL := 2) (rt := (some (.object "java/lang/Object"))) (As := [.int x1]) (rest := []) (x := ⟨"java/util/List", "get", "(I)Ljava/lang/Object;"⟩) h.1 rfl (lw_F q378 q381 q383 q76 q385) ⟨C.ok.2.1 _ q380, C.ok.2.1 _ q379, C.ok.2.1 _ q384, C.ok.2.1 _ q382, C.ok.2.1 _ q174⟩ hdF_J2_get (by decide) rfl rfl (Nat.le_of_ble_eq_true rfl) dX1_its_24 h.2 (fun r g_10 hk_ => ?_) (fun x g1 h => z_out C hQ h)
  clear h; obtain ⟨r_11, rfl, h⟩ := hk_
  show GW X E 2 g_10 29 [(0, .ref a0), (1, .int x1)] [va_rf r_11]
  intro H locs ls hR hS hl
  obtain ⟨a_12, e_, h⟩ := h; subst e_
  have hl : lv_has ls 2 [(0, .ref a0), (1, .int x1)] := by assumption
  show zV X E H locs (F0 (zm E) 29 ls [.ref a_12])
  refine z_castS C hR (ci := 4) (C1 := RX4) (T := TX4) (N := 7) h.1 rfl q455 dX1_its_29 ?_
  have h := h.2
  exact z_aret C hQ (Or.inl ⟨_, rfl⟩) (Or.inr ⟨_, rfl⟩) dX1_its_32 h H locs ls hR hS hl
theorem hdV_X1_its : yX1_its.cls = RX1 ∧ yX1_its.cls ≠ "java/lang/invoke/MethodHandle" ∧ yX1_its.cls ≠ "java/lang/invoke/VarHandle" ∧ (parseMethodDescriptor yX1_its.desc).map (fun d => d.parameters.length) = some 1 := by decide +kernel
set_option maxHeartbeats 4000000 in
theorem mX1_timeOf {X : zX} {d : Nat} {g : zG} {K : Option Value → zG → Prop} {KX : String → zG → Prop} (hok : zOk X) (a0 : Nat) (x1 : Int32) (h : zIs g 1 a0 ∧ zCal X d yX1_its wX1_its [.ref a0, .int x1] g (fun r g_1 => ∃ a_3 : Nat, r = some (.ref a_3) ∧ ∃ (fs_4 : List Value) (v_5 : Int32), zGo g_1 4 a_3 = some fs_4 ∧ fs_4[1]? = some (.int v_5) ∧ K (some (.int v_5)) g_1) KX) : zCal X (d + 1) yX1_timeOf wX1_timeOf [.ref a0, .int x1] g K KX := by
  refine z_enter hok pn_X1 (Nat.le_of_ble_eq_true rfl) (fun E C hQ => ?_)
  have C : zC X (d + 1) E RX1 cX1_timeOf 2 (some .int) "timeOf" := C
  show GW X E 2 g 0 [(0, .ref a0), (1, .int x1)] []
  intro H locs ls hR hS hl
  refine lv_aload_n C.x C.b dX1_timeOf_0 rfl (lv_at hl 0 rfl) ?_
  refine lv_iload_n C.x C.b dX1_timeOf_1 rfl (lv_at hl 1 rfl) ?_
  refine z_callV C hR hS hl (n := 1) (C1 := RX1) (T := TX1) (N := 12) (ci := 1) (y := yX1_its) (bytes := cX1_its) (maxL := 2) (rt := (some (.object "LogGrammar$Event"))) (As := [.int x1]) (rest := []) h.1 rfl (lw_V q1478 q1480 qs23 q73 q1481) hdV_X1_its (by decide) rfl rfl (Nat.le_of_ble_eq_true rfl) dX1_timeOf_2 h.2 (fun r g_1 hk_ => ?_) (fun x g1 h => z_out C hQ h)
  clear h; obtain ⟨a_3, rfl, h⟩ := hk_
  show GW X E 2 g_1 5 [(0, .ref a0), (1, .int x1)] [.ref a_3]
  intro H locs ls hR hS hl
  obtain ⟨fs_4, v_5, q1, q2, h⟩ := h
  refine z_getN C hR q1 rfl (ci := 4) rfl in_X4 1 (by decide) q788 (fun _ h => h) q2 dX1_timeOf_5 ?_
  exact z_iret C hQ dX1_timeOf_8 h H locs ls hR hS hl
set_option maxHeartbeats 4000000 in
theorem mX1_isLate {X : zX} {d : Nat} {g : zG} {K : Option Value → zG → Prop} {KX : String → zG → Prop} (hok : zOk X) (a0 : Nat) (x1 : Int32) (h : zIs g 1 a0 ∧ zCal X d yX1_its wX1_its [.ref a0, .int x1] g (fun r g_1 => ∃ a_3 : Nat, r = some (.ref a_3) ∧ ∃ (fs_4 : List Value) (v_5 : Int32), zGo g_1 4 a_3 = some fs_4 ∧ fs_4[6]? = some (.int v_5) ∧ zbo v_5 ∧ K (some (.int v_5)) g_1) KX) : zCal X (d + 1) yX1_isLate wX1_isLate [.ref a0, .int x1] g K KX := by
  refine z_enter hok pn_X1 (Nat.le_of_ble_eq_true rfl) (fun E C hQ => ?_)
  have C : zC X (d + 1) E RX1 cX1_isLate 2 (some .boolean) "isLate" := C
  show GW X E 2 g 0 [(0, .ref a0), (1, .int x1)] []
  intro H locs ls hR hS hl
  refine lv_aload_n C.x C.b dX1_isLate_0 rfl (lv_at hl 0 rfl) ?_
  refine lv_iload_n C.x C.b dX1_isLate_1 rfl (lv_at hl 1 rfl) ?_
  refine z_callV C hR hS hl (n := 1) (C1 := RX1) (T := TX1) (N := 12) (ci := 1) (y := yX1_its) (bytes := cX1_its) (maxL := 2) (rt := (some (.object "LogGrammar$Event"))) (As := [.int x1]) (rest := []) h.1 rfl (lw_V q1478 q1480 qs23 q73 q1481) hdV_X1_its (by decide) rfl rfl (Nat.le_of_ble_eq_true rfl) dX1_isLate_2 h.2 (fun r g_1 hk_ => ?_) (fun x g1 h => z_out C hQ h)
  clear h; obtain ⟨a_3, rfl, h⟩ := hk_
  show GW X E 2 g_1 5 [(0, .ref a0), (1, .int x1)] [.ref a_3]
  intro H locs ls hR hS hl
  obtain ⟨fs_4, v_5, q1, q2, h⟩ := h
  refine z_getN C hR q1 rfl (ci := 4) rfl in_X4 6 (by decide) q802 (fun _ h => h) q2 dX1_isLate_5 ?_
  exact z_zret C hQ (zbo_n h.1) dX1_isLate_8 h.2 H locs ls hR hS hl
set_option maxHeartbeats 4000000 in
theorem mX1_count {X : zX} {d : Nat} {g : zG} {K : Option Value → zG → Prop} {KX : String → zG → Prop} (hok : zOk X) (a0 : Nat) (x1 : Int32) (x2 : Int32) (x3 : Int32) (h : zCal X d yX1_isIn wX1_isIn [.int x1, .int 0, .int 7] g (fun r g_1 => ∃ v_2 : Int32, r = some (.int v_2) ∧ zbo v_2 ∧ (v_2 = 0 → zCal X d yX1_check wX1_check [.int 0] g_1 (fun r g_3 => r = none ∧ False) KX) ∧ (¬ v_2 = 0 → zCal X d yX1_isIn wX1_isIn [.int x2, .int 0, .int 11000] g_1 (fun r g_4 => ∃ v_5 : Int32, r = some (.int v_5) ∧ zbo v_5 ∧ (v_5 = 0 → zCal X d yX1_check wX1_check [.int 0] g_4 (fun r g_6 => r = none ∧ False) KX) ∧ (¬ v_5 = 0 → zCal X d yX1_isIn wX1_isIn [.int x3, .int x2, .int 11000] g_4 (fun r g_7 => ∃ v_8 : Int32, r = some (.int v_8) ∧ zbo v_8 ∧ (v_8 = 0 → zCal X d yX1_check wX1_check [.int 0] g_7 (fun r g_9 => r = none ∧ False) KX) ∧ (¬ v_8 = 0 → zCal X d yX1_check wX1_check [.int 1] g_7 (fun r g_10 => r = none ∧ ∃ (fs_11 : List Value) (a_12 : Nat), zGo g_10 1 a0 = some fs_11 ∧ fs_11[4]? = some (.ref a_12) ∧ zIs g_10 0 a_12 ∧ zCal X d yJ2_get wJ2_get [.ref a_12, .int x1] g_10 (fun r g_13 => ∃ r_14 : Option Nat, r = some (va_rf r_14) ∧ ∃ a_15 : Nat, r_14 = some a_15 ∧ zIs g_13 2 a_15 ∧ zIs g_13 2 a_15 ∧ zCal X d yX2_over wX2_over [.ref a_15, .int x2, .int x3] g_13 (fun r g_16 => ∃ r_17 : Option Nat, r = some (va_rf r_17) ∧ (r_17 = none → K (some (.int 0)) g_16) ∧ (∀ a_18 : Nat, r_17 = some a_18 → zIs g_16 5 a_18 ∧ ∃ (fs_19 : List Value) (v_20 : Int32), zGo g_16 5 a_18 = some fs_19 ∧ fs_19[0]? = some (.int v_20) ∧ K (some (.int v_20)) g_16)) KX) KX) KX)) KX)) KX)) KX) : zCal X (d + 1) yX1_count wX1_count [.ref a0, .int x1, .int x2, .int x3] g K KX := by
  refine z_enter hok pn_X1 (Nat.le_of_ble_eq_true rfl) (fun E C hQ => ?_)
  have C : zC X (d + 1) E RX1 cX1_count 5 (some .int) "count" := C
  show GW X E 5 g 0 [(0, .ref a0), (1, .int x1), (2, .int x2), (3, .int x3)] []
  intro H locs ls hR hS hl
  refine lv_iload_n C.x C.b dX1_count_0 rfl (lv_at hl 1 rfl) ?_
  refine lv_iconst (v := 0) C.x C.b dX1_count_1 (by decide) ?_
  refine lv_bipush (v := 7) C.x C.b dX1_count_2 (by decide) ?_
  refine z_callS C hR hS hl (n := 3) (y := yX1_isIn) (bytes := cX1_isIn) (maxL := 3) (rt := (some .boolean)) (As := [.int x1, .int 0, .int 7]) (rest := []) (lw_S q701 q702 q73 q703) hdS_X1_isIn (by decide) rfl rfl (Nat.le_of_ble_eq_true rfl) dX1_count_4 h (fun r g_1 hk_ => ?_) (fun x g1 h => z_out C hQ h)
  clear h; obtain ⟨v_2, rfl, zb_, h⟩ := hk_
  show GW X E 5 g_1 7 [(0, .ref a0), (1, .int x1), (2, .int x2), (3, .int x3)] [.int v_2]
  intro H locs ls hR hS hl
  obtain ⟨h1, h2⟩ := h
  refine lv_if_eq (tgt := 36) C.x C.b dX1_count_7 (by decide) (fun c => ?_) (fun c => ?_)
  · have h := h1 c; clear h1 h2
    refine lv_iconst (v := 0) C.x C.b dX1_count_36 (by decide) ?_
    refine z_callS C hR hS hl (n := 1) (y := yX1_check) (bytes := cX1_check) (maxL := 1) (rt := none) (As := [.int 0]) (rest := []) (lw_S q720 q721 q73 q722) hdS_X1_check (by decide) rfl rfl (Nat.le_of_ble_eq_true rfl) dX1_count_37 h (fun r g_3 hk_ => ?_) (fun x g1 h => z_out C hQ h)
    exact hk_.2.elim
  · have h := h2 c; clear h1 h2
    refine lv_iload_n C.x C.b dX1_count_10 rfl (lv_at hl 2 rfl) ?_
    refine lv_iconst (v := 0) C.x C.b dX1_count_11 (by decide) ?_
    refine lv_sipush (v := 11000) C.x C.b dX1_count_12 (by decide) ?_
    refine z_callS C hR hS hl (n := 3) (y := yX1_isIn) (bytes := cX1_isIn) (maxL := 3) (rt := (some .boolean)) (As := [.int x2, .int 0, .int 11000]) (rest := []) (lw_S q701 q702 q73 q703) hdS_X1_isIn (by decide) rfl rfl (Nat.le_of_ble_eq_true rfl) dX1_count_15 h (fun r g_4 hk_ => ?_) (fun x g1 h => z_out C hQ h)
    clear h; obtain ⟨v_5, rfl, zb_, h⟩ := hk_
    show GW X E 5 g_4 18 [(0, .ref a0), (1, .int x1), (2, .int x2), (3, .int x3)] [.int v_5]
    intro H locs ls hR hS hl
    obtain ⟨h1, h2⟩ := h
    refine lv_if_eq (tgt := 36) C.x C.b dX1_count_18 (by decide) (fun c => ?_) (fun c => ?_)
    · have h := h1 c; clear h1 h2
      refine lv_iconst (v := 0) C.x C.b dX1_count_36 (by decide) ?_
      refine z_callS C hR hS hl (n := 1) (y := yX1_check) (bytes := cX1_check) (maxL := 1) (rt := none) (As := [.int 0]) (rest := []) (lw_S q720 q721 q73 q722) hdS_X1_check (by decide) rfl rfl (Nat.le_of_ble_eq_true rfl) dX1_count_37 h (fun r g_6 hk_ => ?_) (fun x g1 h => z_out C hQ h)
      exact hk_.2.elim
    · have h := h2 c; clear h1 h2
      refine lv_iload_n C.x C.b dX1_count_21 rfl (lv_at hl 3 rfl) ?_
      refine lv_iload_n C.x C.b dX1_count_22 rfl (lv_at hl 2 rfl) ?_
      refine lv_sipush (v := 11000) C.x C.b dX1_count_23 (by decide) ?_
      refine z_callS C hR hS hl (n := 3) (y := yX1_isIn) (bytes := cX1_isIn) (maxL := 3) (rt := (some .boolean)) (As := [.int x3, .int x2, .int 11000]) (rest := []) (lw_S q701 q702 q73 q703) hdS_X1_isIn (by decide) rfl rfl (Nat.le_of_ble_eq_true rfl) dX1_count_26 h (fun r g_7 hk_ => ?_) (fun x g1 h => z_out C hQ h)
      clear h; obtain ⟨v_8, rfl, zb_, h⟩ := hk_
      show GW X E 5 g_7 29 [(0, .ref a0), (1, .int x1), (2, .int x2), (3, .int x3)] [.int v_8]
      intro H locs ls hR hS hl
      obtain ⟨h1, h2⟩ := h
      refine lv_if_eq (tgt := 36) C.x C.b dX1_count_29 (by decide) (fun c => ?_) (fun c => ?_)
      · have h := h1 c; clear h1 h2
        refine lv_iconst (v := 0) C.x C.b dX1_count_36 (by decide) ?_
        refine z_callS C hR hS hl (n := 1) (y := yX1_check) (bytes := cX1_check) (maxL := 1) (rt := none) (As := [.int 0]) (rest := []) (lw_S q720 q721 q73 q722) hdS_X1_check (by decide) rfl rfl (Nat.le_of_ble_eq_true rfl) dX1_count_37 h (fun r g_9 hk_ => ?_) (fun x g1 h => z_out C hQ h)
        exact hk_.2.elim
      · have h := h2 c; clear h1 h2
        refine lv_iconst (v := 1) C.x C.b dX1_count_32 (by decide) ?_
        refine lv_goto (tgt := 37) C.x C.b dX1_count_33 (by decide) ?_
        refine z_callS C hR hS hl (n := 1) (y := yX1_check) (bytes := cX1_check) (maxL := 1) (rt := none) (As := [.int 1]) (rest := []) (lw_S q720 q721 q73 q722) hdS_X1_check (by decide) rfl rfl (Nat.le_of_ble_eq_true rfl) dX1_count_37 h (fun r g_10 hk_ => ?_) (fun x g1 h => z_out C hQ h)
        clear h; obtain ⟨rfl, h⟩ := hk_
        show GW X E 5 g_10 40 [(0, .ref a0), (1, .int x1), (2, .int x2), (3, .int x3)] []
        intro H locs ls hR hS hl
        refine lv_aload_n C.x C.b dX1_count_40 rfl (lv_at hl 0 rfl) ?_
        obtain ⟨fs_11, a_12, q1, q2, h⟩ := h
        refine z_get C hR q1 rfl (ci := 1) rfl in_X1 4 (by decide) q250 (fun _ h => h) q2 dX1_count_41 ?_
        refine lv_iload_n C.x C.b dX1_count_44 rfl (lv_at hl 1 rfl) ?_
        refine z_callF C hR hS hl (n := 1) (C1 := RJ2) (T := TJ2) (N := 3) (ci := 0) (y := yJ2_get) (bytes := cJ2_get) (maxL := 2) (rt := (some (.object "java/lang/Object"))) (As := [.int x1]) (rest := []) (x := ⟨"java/util/List", "get", "(I)Ljava/lang/Object;"⟩) h.1 rfl (lw_F q378 q381 q383 q76 q385) ⟨C.ok.2.1 _ q380, C.ok.2.1 _ q379, C.ok.2.1 _ q384, C.ok.2.1 _ q382, C.ok.2.1 _ q174⟩ hdF_J2_get (by decide) rfl rfl (Nat.le_of_ble_eq_true rfl) dX1_count_45 h.2 (fun r g_13 hk_ => ?_) (fun x g1 h => z_out C hQ h)
        clear h; obtain ⟨r_14, rfl, h⟩ := hk_
        show GW X E 5 g_13 50 [(0, .ref a0), (1, .int x1), (2, .int x2), (3, .int x3)] [va_rf r_14]
        intro H locs ls hR hS hl
        obtain ⟨a_15, e_, h⟩ := h; subst e_
        have hl : lv_has ls 5 [(0, .ref a0), (1, .int x1), (2, .int x2), (3, .int x3)] := by assumption
        show zV X E H locs (F0 (zm E) 50 ls [.ref a_15])
        refine z_castS C hR (ci := 2) (C1 := RX2) (T := TX2) (N := 5) h.1 rfl q148 dX1_count_50 ?_
        have h := h.2
        refine lv_iload_n C.x C.b dX1_count_53 rfl (lv_at hl 2 rfl) ?_
        refine lv_iload_n C.x C.b dX1_count_54 rfl (lv_at hl 3 rfl) ?_
        refine z_callV C hR hS hl (n := 2) (C1 := RX2) (T := TX2) (N := 5) (ci := 2) (y := yX2_over) (bytes := cX2_over) (maxL := 5) (rt := (some (.object "LogGrammar$Summary"))) (As := [.int x2, .int x3]) (rest := []) h.1 rfl (lw_V q1496 q1497 q1498 q77 q1499) hdV_X2_over (by decide) rfl rfl (Nat.le_of_ble_eq_true rfl) dX1_count_55 h.2 (fun r g_16 hk_ => ?_) (fun x g1 h => z_out C hQ h)
        clear h; obtain ⟨r_17, rfl, h⟩ := hk_
        show GW X E 5 g_16 58 [(0, .ref a0), (1, .int x1), (2, .int x2), (3, .int x3)] [va_rf r_17]
        intro H locs ls hR hS hl
        obtain ⟨h1, h2⟩ := h
        cases r_17 with
        | none =>
          have h := h1 rfl; clear h1 h2
          have hl : lv_has ls 5 [(0, .ref a0), (1, .int x1), (2, .int x2), (3, .int x3)] := by assumption
          refine lv_castN C.x C.b dX1_count_58 ?_
          refine lv_astoreN (lv' := [(4, .null), (0, .ref a0), (1, .int x1), (2, .int x2), (3, .int x3)]) C.x C.b dX1_count_61 hl (by decide) rfl (fun ls hl => ?_)
          refine lv_aloadN C.x C.b dX1_count_63 (lv_at hl 0 rfl) ?_
          refine lv_ifnonnullN C.x C.b dX1_count_65 ?_
          refine lv_iconst (v := 0) C.x C.b dX1_count_68 (by decide) ?_
          refine lv_goto (tgt := 77) C.x C.b dX1_count_69 (by decide) ?_
          exact z_iret C hQ dX1_count_77 h H locs ls hR hS hl
        | some a_18 =>
          have h := h2 _ rfl; clear h1 h2
          have hl : lv_has ls 5 [(0, .ref a0), (1, .int x1), (2, .int x2), (3, .int x3)] := by assumption
          refine z_castS C hR (ci := 5) (C1 := RX5) (T := TX5) (N := 2) h.1 rfl q1073 dX1_count_58 ?_
          have h := h.2
          refine lv_astore (lv' := [(4, .ref a_18), (0, .ref a0), (1, .int x1), (2, .int x2), (3, .int x3)]) C.x C.b dX1_count_61 hl (by decide) rfl (fun ls hl => ?_)
          refine lv_aload C.x C.b dX1_count_63 (lv_at hl 0 rfl) ?_
          refine lv_ifnonnull (tgt := 72) C.x C.b dX1_count_65 (by decide) ?_
          refine lv_aload C.x C.b dX1_count_72 (lv_at hl 0 rfl) ?_
          obtain ⟨fs_19, v_20, q1, q2, h⟩ := h
          refine z_getN C hR q1 rfl (ci := 5) rfl in_X5 0 (by decide) q1080 (fun _ h => h) q2 dX1_count_74 ?_
          exact z_iret C hQ dX1_count_77 h H locs ls hR hS hl
set_option maxHeartbeats 4000000 in
theorem mX1_greatest {X : zX} {d : Nat} {g : zG} {K : Option Value → zG → Prop} {KX : String → zG → Prop} (hok : zOk X) (a0 : Nat) (x1 : Int32) (x2 : Int32) (x3 : Int32) (h : zCal X d yX1_isIn wX1_isIn [.int x1, .int 0, .int 7] g (fun r g_1 => ∃ v_2 : Int32, r = some (.int v_2) ∧ zbo v_2 ∧ (v_2 = 0 → zCal X d yX1_check wX1_check [.int 0] g_1 (fun r g_3 => r = none ∧ False) KX) ∧ (¬ v_2 = 0 → zCal X d yX1_isIn wX1_isIn [.int x2, .int 0, .int 11000] g_1 (fun r g_4 => ∃ v_5 : Int32, r = some (.int v_5) ∧ zbo v_5 ∧ (v_5 = 0 → zCal X d yX1_check wX1_check [.int 0] g_4 (fun r g_6 => r = none ∧ False) KX) ∧ (¬ v_5 = 0 → zCal X d yX1_isIn wX1_isIn [.int x3, .int x2, .int 11000] g_4 (fun r g_7 => ∃ v_8 : Int32, r = some (.int v_8) ∧ zbo v_8 ∧ (v_8 = 0 → zCal X d yX1_check wX1_check [.int 0] g_7 (fun r g_9 => r = none ∧ False) KX) ∧ (¬ v_8 = 0 → zCal X d yX1_check wX1_check [.int 1] g_7 (fun r g_10 => r = none ∧ ∃ (fs_11 : List Value) (a_12 : Nat), zGo g_10 1 a0 = some fs_11 ∧ fs_11[4]? = some (.ref a_12) ∧ zIs g_10 0 a_12 ∧ zCal X d yJ2_get wJ2_get [.ref a_12, .int x1] g_10 (fun r g_13 => ∃ r_14 : Option Nat, r = some (va_rf r_14) ∧ ∃ a_15 : Nat, r_14 = some a_15 ∧ zIs g_13 2 a_15 ∧ zIs g_13 2 a_15 ∧ zCal X d yX2_over wX2_over [.ref a_15, .int x2, .int x3] g_13 (fun r g_16 => ∃ r_17 : Option Nat, r = some (va_rf r_17) ∧ (r_17 = none → K (some (.int (-1001))) g_16) ∧ (∀ a_18 : Nat, r_17 = some a_18 → zIs g_16 5 a_18 ∧ ∃ (fs_19 : List Value) (v_20 : Int32), zGo g_16 5 a_18 = some fs_19 ∧ fs_19[1]? = some (.int v_20) ∧ K (some (.int v_20)) g_16)) KX) KX) KX)) KX)) KX)) KX) : zCal X (d + 1) yX1_greatest wX1_greatest [.ref a0, .int x1, .int x2, .int x3] g K KX := by
  refine z_enter hok pn_X1 (Nat.le_of_ble_eq_true rfl) (fun E C hQ => ?_)
  have C : zC X (d + 1) E RX1 cX1_greatest 5 (some .int) "greatest" := C
  show GW X E 5 g 0 [(0, .ref a0), (1, .int x1), (2, .int x2), (3, .int x3)] []
  intro H locs ls hR hS hl
  refine lv_iload_n C.x C.b dX1_greatest_0 rfl (lv_at hl 1 rfl) ?_
  refine lv_iconst (v := 0) C.x C.b dX1_greatest_1 (by decide) ?_
  refine lv_bipush (v := 7) C.x C.b dX1_greatest_2 (by decide) ?_
  refine z_callS C hR hS hl (n := 3) (y := yX1_isIn) (bytes := cX1_isIn) (maxL := 3) (rt := (some .boolean)) (As := [.int x1, .int 0, .int 7]) (rest := []) (lw_S q701 q702 q73 q703) hdS_X1_isIn (by decide) rfl rfl (Nat.le_of_ble_eq_true rfl) dX1_greatest_4 h (fun r g_1 hk_ => ?_) (fun x g1 h => z_out C hQ h)
  clear h; obtain ⟨v_2, rfl, zb_, h⟩ := hk_
  show GW X E 5 g_1 7 [(0, .ref a0), (1, .int x1), (2, .int x2), (3, .int x3)] [.int v_2]
  intro H locs ls hR hS hl
  obtain ⟨h1, h2⟩ := h
  refine lv_if_eq (tgt := 36) C.x C.b dX1_greatest_7 (by decide) (fun c => ?_) (fun c => ?_)
  · have h := h1 c; clear h1 h2
    refine lv_iconst (v := 0) C.x C.b dX1_greatest_36 (by decide) ?_
    refine z_callS C hR hS hl (n := 1) (y := yX1_check) (bytes := cX1_check) (maxL := 1) (rt := none) (As := [.int 0]) (rest := []) (lw_S q720 q721 q73 q722) hdS_X1_check (by decide) rfl rfl (Nat.le_of_ble_eq_true rfl) dX1_greatest_37 h (fun r g_3 hk_ => ?_) (fun x g1 h => z_out C hQ h)
    exact hk_.2.elim
  · have h := h2 c; clear h1 h2
    refine lv_iload_n C.x C.b dX1_greatest_10 rfl (lv_at hl 2 rfl) ?_
    refine lv_iconst (v := 0) C.x C.b dX1_greatest_11 (by decide) ?_
    refine lv_sipush (v := 11000) C.x C.b dX1_greatest_12 (by decide) ?_
    refine z_callS C hR hS hl (n := 3) (y := yX1_isIn) (bytes := cX1_isIn) (maxL := 3) (rt := (some .boolean)) (As := [.int x2, .int 0, .int 11000]) (rest := []) (lw_S q701 q702 q73 q703) hdS_X1_isIn (by decide) rfl rfl (Nat.le_of_ble_eq_true rfl) dX1_greatest_15 h (fun r g_4 hk_ => ?_) (fun x g1 h => z_out C hQ h)
    clear h; obtain ⟨v_5, rfl, zb_, h⟩ := hk_
    show GW X E 5 g_4 18 [(0, .ref a0), (1, .int x1), (2, .int x2), (3, .int x3)] [.int v_5]
    intro H locs ls hR hS hl
    obtain ⟨h1, h2⟩ := h
    refine lv_if_eq (tgt := 36) C.x C.b dX1_greatest_18 (by decide) (fun c => ?_) (fun c => ?_)
    · have h := h1 c; clear h1 h2
      refine lv_iconst (v := 0) C.x C.b dX1_greatest_36 (by decide) ?_
      refine z_callS C hR hS hl (n := 1) (y := yX1_check) (bytes := cX1_check) (maxL := 1) (rt := none) (As := [.int 0]) (rest := []) (lw_S q720 q721 q73 q722) hdS_X1_check (by decide) rfl rfl (Nat.le_of_ble_eq_true rfl) dX1_greatest_37 h (fun r g_6 hk_ => ?_) (fun x g1 h => z_out C hQ h)
      exact hk_.2.elim
    · have h := h2 c; clear h1 h2
      refine lv_iload_n C.x C.b dX1_greatest_21 rfl (lv_at hl 3 rfl) ?_
      refine lv_iload_n C.x C.b dX1_greatest_22 rfl (lv_at hl 2 rfl) ?_
      refine lv_sipush (v := 11000) C.x C.b dX1_greatest_23 (by decide) ?_
      refine z_callS C hR hS hl (n := 3) (y := yX1_isIn) (bytes := cX1_isIn) (maxL := 3) (rt := (some .boolean)) (As := [.int x3, .int x2, .int 11000]) (rest := []) (lw_S q701 q702 q73 q703) hdS_X1_isIn (by decide) rfl rfl (Nat.le_of_ble_eq_true rfl) dX1_greatest_26 h (fun r g_7 hk_ => ?_) (fun x g1 h => z_out C hQ h)
      clear h; obtain ⟨v_8, rfl, zb_, h⟩ := hk_
      show GW X E 5 g_7 29 [(0, .ref a0), (1, .int x1), (2, .int x2), (3, .int x3)] [.int v_8]
      intro H locs ls hR hS hl
      obtain ⟨h1, h2⟩ := h
      refine lv_if_eq (tgt := 36) C.x C.b dX1_greatest_29 (by decide) (fun c => ?_) (fun c => ?_)
      · have h := h1 c; clear h1 h2
        refine lv_iconst (v := 0) C.x C.b dX1_greatest_36 (by decide) ?_
        refine z_callS C hR hS hl (n := 1) (y := yX1_check) (bytes := cX1_check) (maxL := 1) (rt := none) (As := [.int 0]) (rest := []) (lw_S q720 q721 q73 q722) hdS_X1_check (by decide) rfl rfl (Nat.le_of_ble_eq_true rfl) dX1_greatest_37 h (fun r g_9 hk_ => ?_) (fun x g1 h => z_out C hQ h)
        exact hk_.2.elim
      · have h := h2 c; clear h1 h2
        refine lv_iconst (v := 1) C.x C.b dX1_greatest_32 (by decide) ?_
        refine lv_goto (tgt := 37) C.x C.b dX1_greatest_33 (by decide) ?_
        refine z_callS C hR hS hl (n := 1) (y := yX1_check) (bytes := cX1_check) (maxL := 1) (rt := none) (As := [.int 1]) (rest := []) (lw_S q720 q721 q73 q722) hdS_X1_check (by decide) rfl rfl (Nat.le_of_ble_eq_true rfl) dX1_greatest_37 h (fun r g_10 hk_ => ?_) (fun x g1 h => z_out C hQ h)
        clear h; obtain ⟨rfl, h⟩ := hk_
        show GW X E 5 g_10 40 [(0, .ref a0), (1, .int x1), (2, .int x2), (3, .int x3)] []
        intro H locs ls hR hS hl
        refine lv_aload_n C.x C.b dX1_greatest_40 rfl (lv_at hl 0 rfl) ?_
        obtain ⟨fs_11, a_12, q1, q2, h⟩ := h
        refine z_get C hR q1 rfl (ci := 1) rfl in_X1 4 (by decide) q250 (fun _ h => h) q2 dX1_greatest_41 ?_
        refine lv_iload_n C.x C.b dX1_greatest_44 rfl (lv_at hl 1 rfl) ?_
        refine z_callF C hR hS hl (n := 1) (C1 := RJ2) (T := TJ2) (N := 3) (ci := 0) (y := yJ2_get) (bytes := cJ2_get) (maxL := 2) (rt := (some (.object "java/lang/Object"))) (As := [.int x1]) (rest := []) (x := ⟨"java/util/List", "get", "(I)Ljava/lang/Object;"⟩) h.1 rfl (lw_F q378 q381 q383 q76 q385) ⟨C.ok.2.1 _ q380, C.ok.2.1 _ q379, C.ok.2.1 _ q384, C.ok.2.1 _ q382, C.ok.2.1 _ q174⟩ hdF_J2_get (by decide) rfl rfl (Nat.le_of_ble_eq_true rfl) dX1_greatest_45 h.2 (fun r g_13 hk_ => ?_) (fun x g1 h => z_out C hQ h)
        clear h; obtain ⟨r_14, rfl, h⟩ := hk_
        show GW X E 5 g_13 50 [(0, .ref a0), (1, .int x1), (2, .int x2), (3, .int x3)] [va_rf r_14]
        intro H locs ls hR hS hl
        obtain ⟨a_15, e_, h⟩ := h; subst e_
        have hl : lv_has ls 5 [(0, .ref a0), (1, .int x1), (2, .int x2), (3, .int x3)] := by assumption
        show zV X E H locs (F0 (zm E) 50 ls [.ref a_15])
        refine z_castS C hR (ci := 2) (C1 := RX2) (T := TX2) (N := 5) h.1 rfl q148 dX1_greatest_50 ?_
        have h := h.2
        refine lv_iload_n C.x C.b dX1_greatest_53 rfl (lv_at hl 2 rfl) ?_
        refine lv_iload_n C.x C.b dX1_greatest_54 rfl (lv_at hl 3 rfl) ?_
        refine z_callV C hR hS hl (n := 2) (C1 := RX2) (T := TX2) (N := 5) (ci := 2) (y := yX2_over) (bytes := cX2_over) (maxL := 5) (rt := (some (.object "LogGrammar$Summary"))) (As := [.int x2, .int x3]) (rest := []) h.1 rfl (lw_V q1496 q1497 q1498 q77 q1499) hdV_X2_over (by decide) rfl rfl (Nat.le_of_ble_eq_true rfl) dX1_greatest_55 h.2 (fun r g_16 hk_ => ?_) (fun x g1 h => z_out C hQ h)
        clear h; obtain ⟨r_17, rfl, h⟩ := hk_
        show GW X E 5 g_16 58 [(0, .ref a0), (1, .int x1), (2, .int x2), (3, .int x3)] [va_rf r_17]
        intro H locs ls hR hS hl
        obtain ⟨h1, h2⟩ := h
        cases r_17 with
        | none =>
          have h := h1 rfl; clear h1 h2
          have hl : lv_has ls 5 [(0, .ref a0), (1, .int x1), (2, .int x2), (3, .int x3)] := by assumption
          refine lv_castN C.x C.b dX1_greatest_58 ?_
          refine lv_astoreN (lv' := [(4, .null), (0, .ref a0), (1, .int x1), (2, .int x2), (3, .int x3)]) C.x C.b dX1_greatest_61 hl (by decide) rfl (fun ls hl => ?_)
          refine lv_aloadN C.x C.b dX1_greatest_63 (lv_at hl 0 rfl) ?_
          refine lv_ifnonnullN C.x C.b dX1_greatest_65 ?_
          refine lv_sipush (v := (-1001)) C.x C.b dX1_greatest_68 (by decide) ?_
          refine lv_goto (tgt := 79) C.x C.b dX1_greatest_71 (by decide) ?_
          exact z_iret C hQ dX1_greatest_79 h H locs ls hR hS hl
        | some a_18 =>
          have h := h2 _ rfl; clear h1 h2
          have hl : lv_has ls 5 [(0, .ref a0), (1, .int x1), (2, .int x2), (3, .int x3)] := by assumption
          refine z_castS C hR (ci := 5) (C1 := RX5) (T := TX5) (N := 2) h.1 rfl q1073 dX1_greatest_58 ?_
          have h := h.2
          refine lv_astore (lv' := [(4, .ref a_18), (0, .ref a0), (1, .int x1), (2, .int x2), (3, .int x3)]) C.x C.b dX1_greatest_61 hl (by decide) rfl (fun ls hl => ?_)
          refine lv_aload C.x C.b dX1_greatest_63 (lv_at hl 0 rfl) ?_
          refine lv_ifnonnull (tgt := 74) C.x C.b dX1_greatest_65 (by decide) ?_
          refine lv_aload C.x C.b dX1_greatest_74 (lv_at hl 0 rfl) ?_
          obtain ⟨fs_19, v_20, q1, q2, h⟩ := h
          refine z_getN C hR q1 rfl (ci := 5) rfl in_X5 1 (by decide) q1082 (fun _ h => h) q2 dX1_greatest_76 ?_
          exact z_iret C hQ dX1_greatest_79 h H locs ls hR hS hl
set_option maxHeartbeats 4000000 in
theorem bX1_greatestByAll_56 {X : zX} {d : Nat} {E : zM} {K : Option Value → zG → Prop} {KX : String → zG → Prop} (C : zC X (d + 1) E RX1 cX1_greatestByAll 7 (some .int) "greatestByAll") (hQ : zQ X E K KX) (g : zG) (x1 : Int32) (x2 : Int32) (x3 : Int32) (x4 : Int32) (a5 : Nat) (h : zIs g 11 a5 ∧ zCal X d yJ22_hasNext wJ22_hasNext [.ref a5] g (fun r g_1 => ∃ v_2 : Int32, r = some (.int v_2) ∧ zbo v_2 ∧ (v_2 = 0 → K (some (.int x4)) g_1) ∧ (¬ v_2 = 0 → zIs g_1 11 a5 ∧ zCal X d yJ22_next wJ22_next [.ref a5] g_1 (fun r g_3 => ∃ r_4 : Option Nat, r = some (va_rf r_4) ∧ ∃ a_5 : Nat, r_4 = some a_5 ∧ zIs g_3 4 a_5 ∧ ∃ (fs_6 : List Value) (v_7 : Int32), zGo g_3 4 a_5 = some fs_6 ∧ fs_6[3]? = some (.int v_7) ∧ (¬ v_7 = x1 → GW X E 7 g_3 56 [(1, .int x1), (2, .int x2), (3, .int x3), (4, .int x4), (5, .ref a5)] []) ∧ (v_7 = x1 → ∃ (fs_8 : List Value) (v_9 : Int32), zGo g_3 4 a_5 = some fs_8 ∧ fs_8[1]? = some (.int v_9) ∧ zCal X d yX1_isIn wX1_isIn [.int v_9, .int x2, .int x3] g_3 (fun r g_10 => ∃ v_11 : Int32, r = some (.int v_11) ∧ zbo v_11 ∧ (v_11 = 0 → GW X E 7 g_10 56 [(1, .int x1), (2, .int x2), (3, .int x3), (4, .int x4), (5, .ref a5)] []) ∧ (¬ v_11 = 0 → ∃ (fs_12 : List Value) (v_13 : Int32), zGo g_10 4 a_5 = some fs_12 ∧ fs_12[5]? = some (.int v_13) ∧ zCal X d yJ4_max wJ4_max [.int x4, .int v_13] g_10 (fun r g_14 => ∃ v_15 : Int32, r = some (.int v_15) ∧ GW X E 7 g_14 56 [(1, .int x1), (2, .int x2), (3, .int x3), (4, .int v_15), (5, .ref a5)] []) KX)) KX)) KX)) KX) : GW X E 7 g 56 [(1, .int x1), (2, .int x2), (3, .int x3), (4, .int x4), (5, .ref a5)] [] := by
  intro H locs ls hR hS hl
  refine lv_aload C.x C.b dX1_greatestByAll_56 (lv_at hl 4 rfl) ?_
  refine z_callF C hR hS hl (n := 0) (C1 := RJ22) (T := TJ22) (N := 4) (ci := 11) (y := yJ22_hasNext) (bytes := cJ22_hasNext) (maxL := 1) (rt := (some .boolean)) (As := []) (rest := []) (x := ⟨"java/util/Iterator", "hasNext", "()Z"⟩) h.1 rfl (lw_F q353 q357 q359 q101 q361) ⟨C.ok.2.1 _ q355, C.ok.2.1 _ q354, C.ok.2.1 _ q360, C.ok.2.1 _ q358, C.ok.2.1 _ q356⟩ hdF_J22_hasNext (by decide) rfl rfl (Nat.le_of_ble_eq_true rfl) dX1_greatestByAll_58 h.2 (fun r g_1 hk_ => ?_) (fun x g1 h => z_out C hQ h)
  clear h; obtain ⟨v_2, rfl, zb_, h⟩ := hk_
  show GW X E 7 g_1 63 [(1, .int x1), (2, .int x2), (3, .int x3), (4, .int x4), (5, .ref a5)] [.int v_2]
  intro H locs ls hR hS hl
  obtain ⟨h1, h2⟩ := h
  refine lv_if_eq (tgt := 120) C.x C.b dX1_greatestByAll_63 (by decide) (fun c => ?_) (fun c => ?_)
  · have h := h1 c; clear h1 h2
    refine lv_iload C.x C.b dX1_greatestByAll_120 (lv_at hl 3 rfl) ?_
    exact z_iret C hQ dX1_greatestByAll_122 h H locs ls hR hS hl
  · have h := h2 c; clear h1 h2
    refine lv_aload C.x C.b dX1_greatestByAll_66 (lv_at hl 4 rfl) ?_
    refine z_callF C hR hS hl (n := 0) (C1 := RJ22) (T := TJ22) (N := 4) (ci := 11) (y := yJ22_next) (bytes := cJ22_next) (maxL := 3) (rt := (some (.object "java/lang/Object"))) (As := []) (rest := []) (x := ⟨"java/util/Iterator", "next", "()Ljava/lang/Object;"⟩) h.1 rfl (lw_F q363 q366 q368 q101 q370) ⟨C.ok.2.1 _ q365, C.ok.2.1 _ q364, C.ok.2.1 _ q369, C.ok.2.1 _ q367, C.ok.2.1 _ q356⟩ hdF_J22_next (by decide) rfl rfl (Nat.le_of_ble_eq_true rfl) dX1_greatestByAll_68 h.2 (fun r g_3 hk_ => ?_) (fun x g1 h => z_out C hQ h)
    clear h; obtain ⟨r_4, rfl, h⟩ := hk_
    show GW X E 7 g_3 73 [(1, .int x1), (2, .int x2), (3, .int x3), (4, .int x4), (5, .ref a5)] [va_rf r_4]
    intro H locs ls hR hS hl
    obtain ⟨a_5, e_, h⟩ := h; subst e_
    have hl : lv_has ls 7 [(1, .int x1), (2, .int x2), (3, .int x3), (4, .int x4), (5, .ref a5)] := by assumption
    show zV X E H locs (F0 (zm E) 73 ls [.ref a_5])
    refine z_castS C hR (ci := 4) (C1 := RX4) (T := TX4) (N := 7) h.1 rfl q455 dX1_greatestByAll_73 ?_
    have h := h.2
    refine lv_astore (lv' := [(6, .ref a_5), (1, .int x1), (2, .int x2), (3, .int x3), (4, .int x4), (5, .ref a5)]) C.x C.b dX1_greatestByAll_76 hl (by decide) rfl (fun ls hl => ?_)
    refine lv_aload C.x C.b dX1_greatestByAll_78 (lv_at hl 0 rfl) ?_
    obtain ⟨fs_6, v_7, q1, q2, h⟩ := h
    refine z_getN C hR q1 rfl (ci := 4) rfl in_X4 3 (by decide) q793 (fun _ h => h) q2 dX1_greatestByAll_80 ?_
    refine lv_iload_n C.x C.b dX1_greatestByAll_83 rfl (lv_at hl 1 rfl) ?_
    obtain ⟨h1, h2⟩ := h
    refine lv_icmp_ne (tgt := 113) C.x C.b dX1_greatestByAll_84 (by decide) (fun c => ?_) (fun c => ?_)
    · have h := h1 c; clear h1 h2
      refine lv_iload C.x C.b dX1_greatestByAll_113 (lv_at hl 4 rfl) ?_
      refine lv_istore (lv' := [(4, .int x4), (6, .ref a_5), (1, .int x1), (2, .int x2), (3, .int x3), (5, .ref a5)]) C.x C.b dX1_greatestByAll_115 hl (by decide) rfl (fun ls hl => ?_)
      refine lv_goto (tgt := 56) C.x C.b dX1_greatestByAll_117 (by decide) ?_
      exact h H locs ls hR hS (lv_sub hl [2, 3, 4, 0, 5] rfl)
    · have h := h2 c; clear h1 h2
      refine lv_aload C.x C.b dX1_greatestByAll_87 (lv_at hl 0 rfl) ?_
      obtain ⟨fs_8, v_9, q1, q2, h⟩ := h
      refine z_getN C hR q1 rfl (ci := 4) rfl in_X4 1 (by decide) q788 (fun _ h => h) q2 dX1_greatestByAll_89 ?_
      refine lv_iload_n C.x C.b dX1_greatestByAll_92 rfl (lv_at hl 2 rfl) ?_
      refine lv_iload_n C.x C.b dX1_greatestByAll_93 rfl (lv_at hl 3 rfl) ?_
      refine z_callS C hR hS hl (n := 3) (y := yX1_isIn) (bytes := cX1_isIn) (maxL := 3) (rt := (some .boolean)) (As := [.int v_9, .int x2, .int x3]) (rest := []) (lw_S q701 q702 q73 q703) hdS_X1_isIn (by decide) rfl rfl (Nat.le_of_ble_eq_true rfl) dX1_greatestByAll_94 h (fun r g_10 hk_ => ?_) (fun x g1 h => z_out C hQ h)
      clear h; obtain ⟨v_11, rfl, zb_, h⟩ := hk_
      show GW X E 7 g_10 97 [(6, .ref a_5), (1, .int x1), (2, .int x2), (3, .int x3), (4, .int x4), (5, .ref a5)] [.int v_11]
      intro H locs ls hR hS hl
      obtain ⟨h1, h2⟩ := h
      refine lv_if_eq (tgt := 113) C.x C.b dX1_greatestByAll_97 (by decide) (fun c => ?_) (fun c => ?_)
      · have h := h1 c; clear h1 h2
        refine lv_iload C.x C.b dX1_greatestByAll_113 (lv_at hl 4 rfl) ?_
        refine lv_istore (lv' := [(4, .int x4), (6, .ref a_5), (1, .int x1), (2, .int x2), (3, .int x3), (5, .ref a5)]) C.x C.b dX1_greatestByAll_115 hl (by decide) rfl (fun ls hl => ?_)
        refine lv_goto (tgt := 56) C.x C.b dX1_greatestByAll_117 (by decide) ?_
        exact h H locs ls hR hS (lv_sub hl [2, 3, 4, 0, 5] rfl)
      · have h := h2 c; clear h1 h2
        refine lv_iload C.x C.b dX1_greatestByAll_100 (lv_at hl 4 rfl) ?_
        refine lv_aload C.x C.b dX1_greatestByAll_102 (lv_at hl 0 rfl) ?_
        obtain ⟨fs_12, v_13, q1, q2, h⟩ := h
        refine z_getN C hR q1 rfl (ci := 4) rfl in_X4 5 (by decide) q800 (fun _ h => h) q2 dX1_greatestByAll_104 ?_
        refine z_callS C hR hS hl (n := 2) (y := yJ4_max) (bytes := cJ4_max) (maxL := 2) (rt := (some .int)) (As := [.int x4, .int v_13]) (rest := []) (lw_S q1072 q196 q79 q197) hdS_J4_max (by decide) rfl rfl (Nat.le_of_ble_eq_true rfl) dX1_greatestByAll_107 h (fun r g_14 hk_ => ?_) (fun x g1 h => z_out C hQ h)
        clear h; obtain ⟨v_15, rfl, h⟩ := hk_
        show GW X E 7 g_14 110 [(6, .ref a_5), (1, .int x1), (2, .int x2), (3, .int x3), (4, .int x4), (5, .ref a5)] [.int v_15]
        intro H locs ls hR hS hl
        refine lv_goto (tgt := 115) C.x C.b dX1_greatestByAll_110 (by decide) ?_
        refine lv_istore (lv' := [(4, .int v_15), (6, .ref a_5), (1, .int x1), (2, .int x2), (3, .int x3), (5, .ref a5)]) C.x C.b dX1_greatestByAll_115 hl (by decide) rfl (fun ls hl => ?_)
        refine lv_goto (tgt := 56) C.x C.b dX1_greatestByAll_117 (by decide) ?_
        exact h H locs ls hR hS (lv_sub hl [2, 3, 4, 0, 5] rfl)
set_option maxHeartbeats 4000000 in
theorem mX1_greatestByAll {X : zX} {d : Nat} {g : zG} {K : Option Value → zG → Prop} {KX : String → zG → Prop} (hok : zOk X) (a0 : Nat) (x1 : Int32) (x2 : Int32) (x3 : Int32) (h : ∀ E : zM, zC X (d + 1) E RX1 cX1_greatestByAll 7 (some .int) "greatestByAll" → zQ X E K KX → zCal X d yX1_isIn wX1_isIn [.int x1, .int 0, .int 7] g (fun r g_1 => ∃ v_2 : Int32, r = some (.int v_2) ∧ zbo v_2 ∧ (v_2 = 0 → zCal X d yX1_check wX1_check [.int 0] g_1 (fun r g_3 => r = none ∧ False) KX) ∧ (¬ v_2 = 0 → zCal X d yX1_isIn wX1_isIn [.int x2, .int 0, .int 11000] g_1 (fun r g_4 => ∃ v_5 : Int32, r = some (.int v_5) ∧ zbo v_5 ∧ (v_5 = 0 → zCal X d yX1_check wX1_check [.int 0] g_4 (fun r g_6 => r = none ∧ False) KX) ∧ (¬ v_5 = 0 → zCal X d yX1_isIn wX1_isIn [.int x3, .int x2, .int 11000] g_4 (fun r g_7 => ∃ v_8 : Int32, r = some (.int v_8) ∧ zbo v_8 ∧ (v_8 = 0 → zCal X d yX1_check wX1_check [.int 0] g_7 (fun r g_9 => r = none ∧ False) KX) ∧ (¬ v_8 = 0 → zCal X d yX1_check wX1_check [.int 1] g_7 (fun r g_10 => r = none ∧ ∃ (fs_11 : List Value) (a_12 : Nat), zGo g_10 1 a0 = some fs_11 ∧ fs_11[2]? = some (.ref a_12) ∧ zIs g_10 0 a_12 ∧ zCal X d yJ2_iterator wJ2_iterator [.ref a_12] g_10 (fun r g_13 => ∃ a_15 : Nat, r = some (.ref a_15) ∧ GW X E 7 g_13 56 [(1, .int x1), (2, .int x2), (3, .int x3), (4, .int (-1001)), (5, .ref a_15)] []) KX) KX)) KX)) KX)) KX) : zCal X (d + 1) yX1_greatestByAll wX1_greatestByAll [.ref a0, .int x1, .int x2, .int x3] g K KX := by
  refine z_enter hok pn_X1 (Nat.le_of_ble_eq_true rfl) (fun E C hQ => ?_)
  have C : zC X (d + 1) E RX1 cX1_greatestByAll 7 (some .int) "greatestByAll" := C
  have h := h E C hQ
  show GW X E 7 g 0 [(0, .ref a0), (1, .int x1), (2, .int x2), (3, .int x3)] []
  intro H locs ls hR hS hl
  refine lv_iload_n C.x C.b dX1_greatestByAll_0 rfl (lv_at hl 1 rfl) ?_
  refine lv_iconst (v := 0) C.x C.b dX1_greatestByAll_1 (by decide) ?_
  refine lv_bipush (v := 7) C.x C.b dX1_greatestByAll_2 (by decide) ?_
  refine z_callS C hR hS hl (n := 3) (y := yX1_isIn) (bytes := cX1_isIn) (maxL := 3) (rt := (some .boolean)) (As := [.int x1, .int 0, .int 7]) (rest := []) (lw_S q701 q702 q73 q703) hdS_X1_isIn (by decide) rfl rfl (Nat.le_of_ble_eq_true rfl) dX1_greatestByAll_4 h (fun r g_1 hk_ => ?_) (fun x g1 h => z_out C hQ h)
  clear h; obtain ⟨v_2, rfl, zb_, h⟩ := hk_
  show GW X E 7 g_1 7 [(0, .ref a0), (1, .int x1), (2, .int x2), (3, .int x3)] [.int v_2]
  intro H locs ls hR hS hl
  obtain ⟨h1, h2⟩ := h
  refine lv_if_eq (tgt := 36) C.x C.b dX1_greatestByAll_7 (by decide) (fun c => ?_) (fun c => ?_)
  · have h := h1 c; clear h1 h2
    refine lv_iconst (v := 0) C.x C.b dX1_greatestByAll_36 (by decide) ?_
    refine z_callS C hR hS hl (n := 1) (y := yX1_check) (bytes := cX1_check) (maxL := 1) (rt := none) (As := [.int 0]) (rest := []) (lw_S q720 q721 q73 q722) hdS_X1_check (by decide) rfl rfl (Nat.le_of_ble_eq_true rfl) dX1_greatestByAll_37 h (fun r g_3 hk_ => ?_) (fun x g1 h => z_out C hQ h)
    exact hk_.2.elim
  · have h := h2 c; clear h1 h2
    refine lv_iload_n C.x C.b dX1_greatestByAll_10 rfl (lv_at hl 2 rfl) ?_
    refine lv_iconst (v := 0) C.x C.b dX1_greatestByAll_11 (by decide) ?_
    refine lv_sipush (v := 11000) C.x C.b dX1_greatestByAll_12 (by decide) ?_
    refine z_callS C hR hS hl (n := 3) (y := yX1_isIn) (bytes := cX1_isIn) (maxL := 3) (rt := (some .boolean)) (As := [.int x2, .int 0, .int 11000]) (rest := []) (lw_S q701 q702 q73 q703) hdS_X1_isIn (by decide) rfl rfl (Nat.le_of_ble_eq_true rfl) dX1_greatestByAll_15 h (fun r g_4 hk_ => ?_) (fun x g1 h => z_out C hQ h)
    clear h; obtain ⟨v_5, rfl, zb_, h⟩ := hk_
    show GW X E 7 g_4 18 [(0, .ref a0), (1, .int x1), (2, .int x2), (3, .int x3)] [.int v_5]
    intro H locs ls hR hS hl
    obtain ⟨h1, h2⟩ := h
    refine lv_if_eq (tgt := 36) C.x C.b dX1_greatestByAll_18 (by decide) (fun c => ?_) (fun c => ?_)
    · have h := h1 c; clear h1 h2
      refine lv_iconst (v := 0) C.x C.b dX1_greatestByAll_36 (by decide) ?_
      refine z_callS C hR hS hl (n := 1) (y := yX1_check) (bytes := cX1_check) (maxL := 1) (rt := none) (As := [.int 0]) (rest := []) (lw_S q720 q721 q73 q722) hdS_X1_check (by decide) rfl rfl (Nat.le_of_ble_eq_true rfl) dX1_greatestByAll_37 h (fun r g_6 hk_ => ?_) (fun x g1 h => z_out C hQ h)
      exact hk_.2.elim
    · have h := h2 c; clear h1 h2
      refine lv_iload_n C.x C.b dX1_greatestByAll_21 rfl (lv_at hl 3 rfl) ?_
      refine lv_iload_n C.x C.b dX1_greatestByAll_22 rfl (lv_at hl 2 rfl) ?_
      refine lv_sipush (v := 11000) C.x C.b dX1_greatestByAll_23 (by decide) ?_
      refine z_callS C hR hS hl (n := 3) (y := yX1_isIn) (bytes := cX1_isIn) (maxL := 3) (rt := (some .boolean)) (As := [.int x3, .int x2, .int 11000]) (rest := []) (lw_S q701 q702 q73 q703) hdS_X1_isIn (by decide) rfl rfl (Nat.le_of_ble_eq_true rfl) dX1_greatestByAll_26 h (fun r g_7 hk_ => ?_) (fun x g1 h => z_out C hQ h)
      clear h; obtain ⟨v_8, rfl, zb_, h⟩ := hk_
      show GW X E 7 g_7 29 [(0, .ref a0), (1, .int x1), (2, .int x2), (3, .int x3)] [.int v_8]
      intro H locs ls hR hS hl
      obtain ⟨h1, h2⟩ := h
      refine lv_if_eq (tgt := 36) C.x C.b dX1_greatestByAll_29 (by decide) (fun c => ?_) (fun c => ?_)
      · have h := h1 c; clear h1 h2
        refine lv_iconst (v := 0) C.x C.b dX1_greatestByAll_36 (by decide) ?_
        refine z_callS C hR hS hl (n := 1) (y := yX1_check) (bytes := cX1_check) (maxL := 1) (rt := none) (As := [.int 0]) (rest := []) (lw_S q720 q721 q73 q722) hdS_X1_check (by decide) rfl rfl (Nat.le_of_ble_eq_true rfl) dX1_greatestByAll_37 h (fun r g_9 hk_ => ?_) (fun x g1 h => z_out C hQ h)
        exact hk_.2.elim
      · have h := h2 c; clear h1 h2
        refine lv_iconst (v := 1) C.x C.b dX1_greatestByAll_32 (by decide) ?_
        refine lv_goto (tgt := 37) C.x C.b dX1_greatestByAll_33 (by decide) ?_
        refine z_callS C hR hS hl (n := 1) (y := yX1_check) (bytes := cX1_check) (maxL := 1) (rt := none) (As := [.int 1]) (rest := []) (lw_S q720 q721 q73 q722) hdS_X1_check (by decide) rfl rfl (Nat.le_of_ble_eq_true rfl) dX1_greatestByAll_37 h (fun r g_10 hk_ => ?_) (fun x g1 h => z_out C hQ h)
        clear h; obtain ⟨rfl, h⟩ := hk_
        show GW X E 7 g_10 40 [(0, .ref a0), (1, .int x1), (2, .int x2), (3, .int x3)] []
        intro H locs ls hR hS hl
        refine lv_sipush (v := (-1001)) C.x C.b dX1_greatestByAll_40 (by decide) ?_
        refine lv_istore (lv' := [(4, .int (-1001)), (0, .ref a0), (1, .int x1), (2, .int x2), (3, .int x3)]) C.x C.b dX1_greatestByAll_43 hl (by decide) rfl (fun ls hl => ?_)
        refine lv_aload_n C.x C.b dX1_greatestByAll_45 rfl (lv_at hl 1 rfl) ?_
        obtain ⟨fs_11, a_12, q1, q2, h⟩ := h
        refine z_get C hR q1 rfl (ci := 1) rfl in_X1 2 (by decide) q245 (fun _ h => h) q2 dX1_greatestByAll_46 ?_
        refine z_callF C hR hS hl (n := 0) (C1 := RJ2) (T := TJ2) (N := 3) (ci := 0) (y := yJ2_iterator) (bytes := cJ2_iterator) (maxL := 1) (rt := (some (.object "java/util/Iterator"))) (As := []) (rest := []) (x := ⟨"java/util/List", "iterator", "()Ljava/util/Iterator;"⟩) h.1 rfl (lw_F q325 q328 q330 q76 q332) ⟨C.ok.2.1 _ q327, C.ok.2.1 _ q326, C.ok.2.1 _ q331, C.ok.2.1 _ q329, C.ok.2.1 _ q174⟩ hdF_J2_iterator (by decide) rfl rfl (Nat.le_of_ble_eq_true rfl) dX1_greatestByAll_49 h.2 (fun r g_13 hk_ => ?_) (fun x g1 h => z_out C hQ h)
        clear h; obtain ⟨a_15, rfl, h⟩ := hk_
        show GW X E 7 g_13 54 [(4, .int (-1001)), (0, .ref a0), (1, .int x1), (2, .int x2), (3, .int x3)] [.ref a_15]
        intro H locs ls hR hS hl
        refine lv_astore (lv' := [(5, .ref a_15), (4, .int (-1001)), (0, .ref a0), (1, .int x1), (2, .int x2), (3, .int x3)]) C.x C.b dX1_greatestByAll_54 hl (by decide) rfl (fun ls hl => ?_)
        exact h H locs ls hR hS (lv_sub hl [3, 4, 5, 1, 0] rfl)
set_option maxHeartbeats 4000000 in
theorem mX1_monitor {X : zX} {d : Nat} {g : zG} {K : Option Value → zG → Prop} {KX : String → zG → Prop} (hok : zOk X) (a0 : Nat) (x1 : Int32) (h : ∃ (fs_1 : List Value) (a_2 : Nat), zGo g 1 a0 = some fs_1 ∧ fs_1[9]? = some (.ref a_2) ∧ zIs g 0 a_2 ∧ zCal X d yJ2_size wJ2_size [.ref a_2] g (fun r g_3 => ∃ v_4 : Int32, r = some (.int v_4) ∧ zCal X d yX1_isIn wX1_isIn [.int x1, .int 0, .int (v_4 - 1)] g_3 (fun r g_5 => ∃ v_6 : Int32, r = some (.int v_6) ∧ zbo v_6 ∧ zCal X d yX1_place wX1_place [.int v_6] g_5 (fun r g_7 => r = none ∧ ∃ (fs_8 : List Value) (a_9 : Nat), zGo g_7 1 a0 = some fs_8 ∧ fs_8[9]? = some (.ref a_9) ∧ zIs g_7 0 a_9 ∧ zCal X d yJ2_get wJ2_get [.ref a_9, .int x1] g_7 (fun r g_10 => ∃ r_11 : Option Nat, r = some (va_rf r_11) ∧ ∃ a_12 : Nat, r_11 = some a_12 ∧ zIs g_10 8 a_12 ∧ K (some (.ref a_12)) g_10) KX) KX) KX) KX) : zCal X (d + 1) yX1_monitor wX1_monitor [.ref a0, .int x1] g K KX := by
  refine z_enter hok pn_X1 (Nat.le_of_ble_eq_true rfl) (fun E C hQ => ?_)
  have C : zC X (d + 1) E RX1 cX1_monitor 2 (some (.object "LogGrammar$Monitor")) "monitor" := C
  show GW X E 2 g 0 [(0, .ref a0), (1, .int x1)] []
  intro H locs ls hR hS hl
  refine lv_iload_n C.x C.b dX1_monitor_0 rfl (lv_at hl 1 rfl) ?_
  refine lv_iconst (v := 0) C.x C.b dX1_monitor_1 (by decide) ?_
  refine lv_aload_n C.x C.b dX1_monitor_2 rfl (lv_at hl 0 rfl) ?_
  obtain ⟨fs_1, a_2, q1, q2, h⟩ := h
  refine z_get C hR q1 rfl (ci := 1) rfl in_X1 9 (by decide) q257 (fun _ h => h) q2 dX1_monitor_3 ?_
  refine z_callF C hR hS hl (n := 0) (C1 := RJ2) (T := TJ2) (N := 3) (ci := 0) (y := yJ2_size) (bytes := cJ2_size) (maxL := 1) (rt := (some .int)) (As := []) (rest := [.int 0, .int x1]) (x := ⟨"java/util/List", "size", "()I"⟩) h.1 rfl (lw_F q291 q294 q296 q76 q298) ⟨C.ok.2.1 _ q293, C.ok.2.1 _ q292, C.ok.2.1 _ q297, C.ok.2.1 _ q295, C.ok.2.1 _ q174⟩ hdF_J2_size (by decide) rfl rfl (Nat.le_of_ble_eq_true rfl) dX1_monitor_6 h.2 (fun r g_3 hk_ => ?_) (fun x g1 h => z_out C hQ h)
  clear h; obtain ⟨v_4, rfl, h⟩ := hk_
  show GW X E 2 g_3 11 [(0, .ref a0), (1, .int x1)] [.int v_4, .int 0, .int x1]
  intro H locs ls hR hS hl
  refine lv_iconst (v := 1) C.x C.b dX1_monitor_11 (by decide) ?_
  refine lv_isub C.x C.b dX1_monitor_12 ?_
  refine z_callS C hR hS hl (n := 3) (y := yX1_isIn) (bytes := cX1_isIn) (maxL := 3) (rt := (some .boolean)) (As := [.int x1, .int 0, .int (v_4 - 1)]) (rest := []) (lw_S q701 q702 q73 q703) hdS_X1_isIn (by decide) rfl rfl (Nat.le_of_ble_eq_true rfl) dX1_monitor_13 h (fun r g_5 hk_ => ?_) (fun x g1 h => z_out C hQ h)
  clear h; obtain ⟨v_6, rfl, zb_, h⟩ := hk_
  show GW X E 2 g_5 16 [(0, .ref a0), (1, .int x1)] [.int v_6]
  intro H locs ls hR hS hl
  refine z_callS C hR hS hl (n := 1) (y := yX1_place) (bytes := cX1_place) (maxL := 1) (rt := none) (As := [.int v_6]) (rest := []) (lw_S q704 q705 q73 q706) hdS_X1_place (by decide) rfl rfl (Nat.le_of_ble_eq_true rfl) dX1_monitor_16 h (fun r g_7 hk_ => ?_) (fun x g1 h => z_out C hQ h)
  clear h; obtain ⟨rfl, h⟩ := hk_
  show GW X E 2 g_7 19 [(0, .ref a0), (1, .int x1)] []
  intro H locs ls hR hS hl
  refine lv_aload_n C.x C.b dX1_monitor_19 rfl (lv_at hl 0 rfl) ?_
  obtain ⟨fs_8, a_9, q1, q2, h⟩ := h
  refine z_get C hR q1 rfl (ci := 1) rfl in_X1 9 (by decide) q257 (fun _ h => h) q2 dX1_monitor_20 ?_
  refine lv_iload_n C.x C.b dX1_monitor_23 rfl (lv_at hl 1 rfl) ?_
  refine z_callF C hR hS hl (n := 1) (C1 := RJ2) (T := TJ2) (N := 3) (ci := 0) (y := yJ2_get) (bytes := cJ2_get) (maxL := 2) (rt := (some (.object "java/lang/Object"))) (As := [.int x1]) (rest := []) (x := ⟨"java/util/List", "get", "(I)Ljava/lang/Object;"⟩) h.1 rfl (lw_F q378 q381 q383 q76 q385) ⟨C.ok.2.1 _ q380, C.ok.2.1 _ q379, C.ok.2.1 _ q384, C.ok.2.1 _ q382, C.ok.2.1 _ q174⟩ hdF_J2_get (by decide) rfl rfl (Nat.le_of_ble_eq_true rfl) dX1_monitor_24 h.2 (fun r g_10 hk_ => ?_) (fun x g1 h => z_out C hQ h)
  clear h; obtain ⟨r_11, rfl, h⟩ := hk_
  show GW X E 2 g_10 29 [(0, .ref a0), (1, .int x1)] [va_rf r_11]
  intro H locs ls hR hS hl
  obtain ⟨a_12, e_, h⟩ := h; subst e_
  have hl : lv_has ls 2 [(0, .ref a0), (1, .int x1)] := by assumption
  show zV X E H locs (F0 (zm E) 29 ls [.ref a_12])
  refine z_castS C hR (ci := 8) (C1 := RX8) (T := TX8) (N := 8) h.1 rfl q375 dX1_monitor_29 ?_
  have h := h.2
  exact z_aret C hQ (Or.inl ⟨_, rfl⟩) (Or.inr ⟨_, rfl⟩) dX1_monitor_32 h H locs ls hR hS hl
theorem hdV_X1_monitor : yX1_monitor.cls = RX1 ∧ yX1_monitor.cls ≠ "java/lang/invoke/MethodHandle" ∧ yX1_monitor.cls ≠ "java/lang/invoke/VarHandle" ∧ (parseMethodDescriptor yX1_monitor.desc).map (fun d => d.parameters.length) = some 1 := by decide +kernel
set_option maxHeartbeats 4000000 in
theorem mX1_answer {X : zX} {d : Nat} {g : zG} {K : Option Value → zG → Prop} {KX : String → zG → Prop} (hok : zOk X) (a0 : Nat) (x1 : Int32) (x2 : Int32) (h : zIs g 1 a0 ∧ zCal X d yX1_monitor wX1_monitor [.ref a0, .int x1] g (fun r g_1 => ∃ a_3 : Nat, r = some (.ref a_3) ∧ zIs g_1 1 a0 ∧ zCal X d yX1_its wX1_its [.ref a0, .int x2] g_1 (fun r g_4 => ∃ a_6 : Nat, r = some (.ref a_6) ∧ ∃ (fs_7 : List Value) (a_8 : Nat), zGo g_4 8 a_3 = some fs_7 ∧ fs_7[5]? = some (.ref a_8) ∧ zIs g_4 0 a_8 ∧ zCal X d yJ2_get wJ2_get [.ref a_8, .int x2] g_4 (fun r g_9 => ∃ r_10 : Option Nat, r = some (va_rf r_10) ∧ ∃ a_11 : Nat, r_10 = some a_11 ∧ zIs g_9 6 a_11 ∧ ∃ (fs_12 : List Value) (a_13 : Nat), zGo g_9 6 a_11 = some fs_12 ∧ fs_12[0]? = some (.ref a_13) ∧ (∃ k : Nat, k < 256 ∧ a_13 = zN X k) ∧ ∃ k_14 : Nat, k_14 < 256 ∧ a_13 = zN X k_14 ∧ ∀ v_15 : Int32, v_15 = vb_c k_14 → K (some (.int v_15)) g_9) KX) KX) KX) : zCal X (d + 1) yX1_answer wX1_answer [.ref a0, .int x1, .int x2] g K KX := by
  refine z_enter hok pn_X1 (Nat.le_of_ble_eq_true rfl) (fun E C hQ => ?_)
  have C : zC X (d + 1) E RX1 cX1_answer 4 (some .int) "answer" := C
  show GW X E 4 g 0 [(0, .ref a0), (1, .int x1), (2, .int x2)] []
  intro H locs ls hR hS hl
  refine lv_aload_n C.x C.b dX1_answer_0 rfl (lv_at hl 0 rfl) ?_
  refine lv_iload_n C.x C.b dX1_answer_1 rfl (lv_at hl 1 rfl) ?_
  refine z_callV C hR hS hl (n := 1) (C1 := RX1) (T := TX1) (N := 12) (ci := 1) (y := yX1_monitor) (bytes := cX1_monitor) (maxL := 2) (rt := (some (.object "LogGrammar$Monitor"))) (As := [.int x1]) (rest := []) h.1 rfl (lw_V q1522 q1524 qs24 q73 q1525) hdV_X1_monitor (by decide) rfl rfl (Nat.le_of_ble_eq_true rfl) dX1_answer_2 h.2 (fun r g_1 hk_ => ?_) (fun x g1 h => z_out C hQ h)
  clear h; obtain ⟨a_3, rfl, h⟩ := hk_
  show GW X E 4 g_1 5 [(0, .ref a0), (1, .int x1), (2, .int x2)] [.ref a_3]
  intro H locs ls hR hS hl
  refine lv_astore_n (lv' := [(3, .ref a_3), (0, .ref a0), (1, .int x1), (2, .int x2)]) C.x C.b dX1_answer_5 rfl hl (by decide) rfl (fun ls hl => ?_)
  refine lv_aload_n C.x C.b dX1_answer_6 rfl (lv_at hl 1 rfl) ?_
  refine lv_iload_n C.x C.b dX1_answer_7 rfl (lv_at hl 3 rfl) ?_
  refine z_callV C hR hS hl (n := 1) (C1 := RX1) (T := TX1) (N := 12) (ci := 1) (y := yX1_its) (bytes := cX1_its) (maxL := 2) (rt := (some (.object "LogGrammar$Event"))) (As := [.int x2]) (rest := []) h.1 rfl (lw_V q1478 q1480 qs23 q73 q1481) hdV_X1_its (by decide) rfl rfl (Nat.le_of_ble_eq_true rfl) dX1_answer_8 h.2 (fun r g_4 hk_ => ?_) (fun x g1 h => z_out C hQ h)
  clear h; obtain ⟨a_6, rfl, h⟩ := hk_
  show GW X E 4 g_4 11 [(3, .ref a_3), (0, .ref a0), (1, .int x1), (2, .int x2)] [.ref a_6]
  intro H locs ls hR hS hl
  refine lv_pop C.x C.b dX1_answer_11 rfl ?_
  refine lv_aload_n C.x C.b dX1_answer_12 rfl (lv_at hl 0 rfl) ?_
  obtain ⟨fs_7, a_8, q1, q2, h⟩ := h
  refine z_getN C hR q1 rfl (ci := 8) rfl in_X8 5 (by decide) q1443 (fun _ h => h) q2 dX1_answer_13 ?_
  refine lv_iload_n C.x C.b dX1_answer_16 rfl (lv_at hl 3 rfl) ?_
  refine z_callF C hR hS hl (n := 1) (C1 := RJ2) (T := TJ2) (N := 3) (ci := 0) (y := yJ2_get) (bytes := cJ2_get) (maxL := 2) (rt := (some (.object "java/lang/Object"))) (As := [.int x2]) (rest := []) (x := ⟨"java/util/List", "get", "(I)Ljava/lang/Object;"⟩) h.1 rfl (lw_F q378 q381 q383 q76 q385) ⟨C.ok.2.1 _ q380, C.ok.2.1 _ q379, C.ok.2.1 _ q384, C.ok.2.1 _ q382, C.ok.2.1 _ q174⟩ hdF_J2_get (by decide) rfl rfl (Nat.le_of_ble_eq_true rfl) dX1_answer_17 h.2 (fun r g_9 hk_ => ?_) (fun x g1 h => z_out C hQ h)
  clear h; obtain ⟨r_10, rfl, h⟩ := hk_
  show GW X E 4 g_9 22 [(3, .ref a_3), (0, .ref a0), (1, .int x1), (2, .int x2)] [va_rf r_10]
  intro H locs ls hR hS hl
  obtain ⟨a_11, e_, h⟩ := h; subst e_
  have hl : lv_has ls 4 [(3, .ref a_3), (0, .ref a0), (1, .int x1), (2, .int x2)] := by assumption
  show zV X E H locs (F0 (zm E) 22 ls [.ref a_11])
  refine z_castS C hR (ci := 6) (C1 := RX6) (T := TX6) (N := 2) h.1 rfl q1220 dX1_answer_22 ?_
  have h := h.2
  obtain ⟨fs_12, a_13, q1, q2, h⟩ := h
  refine z_getN C hR q1 rfl (ci := 6) rfl in_X6 0 (by decide) q1162 (fun _ h => h) q2 dX1_answer_25 ?_
  obtain ⟨q1, h⟩ := h
  refine z_castI C hR hS q1 q1221 dX1_answer_28 ?_
  obtain ⟨k_14, q0, q1, h⟩ := h
  rw [q1]
  have h := h _ rfl
  refine z_intValue C hR hS hl (lc := [(3, .ref a_3), (0, .ref a0), (1, .int x1), (2, .int x2)]) (rest := []) q0 q1222 (Nat.le_of_ble_eq_true rfl) dX1_answer_31 ?_
  generalize vb_c k_14 = v_15 at h ⊢
  show GW X E 4 g_9 34 [(3, .ref a_3), (0, .ref a0), (1, .int x1), (2, .int x2)] [.int v_15]
  intro H locs ls hR hS hl
  exact z_iret C hQ dX1_answer_34 h H locs ls hR hS hl
set_option maxHeartbeats 4000000 in
theorem mX1_answerAnew {X : zX} {d : Nat} {g : zG} {K : Option Value → zG → Prop} {KX : String → zG → Prop} (hok : zOk X) (a0 : Nat) (x1 : Int32) (x2 : Int32) (h : zIs g 1 a0 ∧ zCal X d yX1_monitor wX1_monitor [.ref a0, .int x1] g (fun r g_1 => ∃ a_3 : Nat, r = some (.ref a_3) ∧ zIs g_1 1 a0 ∧ zCal X d yX1_its wX1_its [.ref a0, .int x2] g_1 (fun r g_4 => ∃ a_6 : Nat, r = some (.ref a_6) ∧ ∃ (fs_7 : List Value) (a_8 : Nat), zGo g_4 1 a0 = some fs_7 ∧ fs_7[3]? = some (.ref a_8) ∧ zIs g_4 8 a_3 ∧ zCal X d yX8_answerFor wX8_answerFor [.ref a_3, .ref a_6, .ref a_8, .int 1] g_4 (fun r g_9 => ∃ v_10 : Int32, r = some (.int v_10) ∧ K (some (.int v_10)) g_9) KX) KX) KX) : zCal X (d + 1) yX1_answerAnew wX1_answerAnew [.ref a0, .int x1, .int x2] g K KX := by
  refine z_enter hok pn_X1 (Nat.le_of_ble_eq_true rfl) (fun E C hQ => ?_)
  have C : zC X (d + 1) E RX1 cX1_answerAnew 4 (some .int) "answerAnew" := C
  show GW X E 4 g 0 [(0, .ref a0), (1, .int x1), (2, .int x2)] []
  intro H locs ls hR hS hl
  refine lv_aload_n C.x C.b dX1_answerAnew_0 rfl (lv_at hl 0 rfl) ?_
  refine lv_iload_n C.x C.b dX1_answerAnew_1 rfl (lv_at hl 1 rfl) ?_
  refine z_callV C hR hS hl (n := 1) (C1 := RX1) (T := TX1) (N := 12) (ci := 1) (y := yX1_monitor) (bytes := cX1_monitor) (maxL := 2) (rt := (some (.object "LogGrammar$Monitor"))) (As := [.int x1]) (rest := []) h.1 rfl (lw_V q1522 q1524 qs24 q73 q1525) hdV_X1_monitor (by decide) rfl rfl (Nat.le_of_ble_eq_true rfl) dX1_answerAnew_2 h.2 (fun r g_1 hk_ => ?_) (fun x g1 h => z_out C hQ h)
  clear h; obtain ⟨a_3, rfl, h⟩ := hk_
  show GW X E 4 g_1 5 [(0, .ref a0), (1, .int x1), (2, .int x2)] [.ref a_3]
  intro H locs ls hR hS hl
  refine lv_astore_n (lv' := [(3, .ref a_3), (0, .ref a0), (1, .int x1), (2, .int x2)]) C.x C.b dX1_answerAnew_5 rfl hl (by decide) rfl (fun ls hl => ?_)
  refine lv_aload_n C.x C.b dX1_answerAnew_6 rfl (lv_at hl 0 rfl) ?_
  refine lv_aload_n C.x C.b dX1_answerAnew_7 rfl (lv_at hl 1 rfl) ?_
  refine lv_iload_n C.x C.b dX1_answerAnew_8 rfl (lv_at hl 3 rfl) ?_
  refine z_callV C hR hS hl (n := 1) (C1 := RX1) (T := TX1) (N := 12) (ci := 1) (y := yX1_its) (bytes := cX1_its) (maxL := 2) (rt := (some (.object "LogGrammar$Event"))) (As := [.int x2]) (rest := [.ref a_3]) h.1 rfl (lw_V q1478 q1480 qs23 q73 q1481) hdV_X1_its (by decide) rfl rfl (Nat.le_of_ble_eq_true rfl) dX1_answerAnew_9 h.2 (fun r g_4 hk_ => ?_) (fun x g1 h => z_out C hQ h)
  clear h; obtain ⟨a_6, rfl, h⟩ := hk_
  show GW X E 4 g_4 12 [(3, .ref a_3), (0, .ref a0), (1, .int x1), (2, .int x2)] [.ref a_6, .ref a_3]
  intro H locs ls hR hS hl
  refine lv_aload_n C.x C.b dX1_answerAnew_12 rfl (lv_at hl 1 rfl) ?_
  obtain ⟨fs_7, a_8, q1, q2, h⟩ := h
  refine z_get C hR q1 rfl (ci := 1) rfl in_X1 3 (by decide) q248 (fun _ h => h) q2 dX1_answerAnew_13 ?_
  refine lv_iconst (v := 1) C.x C.b dX1_answerAnew_16 (by decide) ?_
  refine z_callV C hR hS hl (n := 3) (C1 := RX8) (T := TX8) (N := 8) (ci := 8) (y := yX8_answerFor) (bytes := cX8_answerFor) (maxL := 8) (rt := (some .int)) (As := [.ref a_6, .ref a_8, .int 1]) (rest := []) h.1 rfl (lw_V q1533 q448 q449 q107 q450) hdV_X8_answerFor (by decide) rfl rfl (Nat.le_of_ble_eq_true rfl) dX1_answerAnew_17 h.2 (fun r g_9 hk_ => ?_) (fun x g1 h => z_out C hQ h)
  clear h; obtain ⟨v_10, rfl, h⟩ := hk_
  show GW X E 4 g_9 20 [(3, .ref a_3), (0, .ref a0), (1, .int x1), (2, .int x2)] [.int v_10]
  intro H locs ls hR hS hl
  exact z_iret C hQ dX1_answerAnew_20 h H locs ls hR hS hl
set_option maxHeartbeats 4000000 in
theorem mX1_knownSince {X : zX} {d : Nat} {g : zG} {K : Option Value → zG → Prop} {KX : String → zG → Prop} (hok : zOk X) (a0 : Nat) (x1 : Int32) (x2 : Int32) (h : zIs g 1 a0 ∧ zCal X d yX1_monitor wX1_monitor [.ref a0, .int x1] g (fun r g_1 => ∃ a_3 : Nat, r = some (.ref a_3) ∧ zIs g_1 1 a0 ∧ zCal X d yX1_its wX1_its [.ref a0, .int x2] g_1 (fun r g_4 => ∃ a_6 : Nat, r = some (.ref a_6) ∧ ∃ (fs_7 : List Value) (a_8 : Nat), zGo g_4 8 a_3 = some fs_7 ∧ fs_7[5]? = some (.ref a_8) ∧ zIs g_4 0 a_8 ∧ zCal X d yJ2_get wJ2_get [.ref a_8, .int x2] g_4 (fun r g_9 => ∃ r_10 : Option Nat, r = some (va_rf r_10) ∧ ∃ a_11 : Nat, r_10 = some a_11 ∧ zIs g_9 6 a_11 ∧ ∃ (fs_12 : List Value) (a_13 : Nat), zGo g_9 6 a_11 = some fs_12 ∧ fs_12[1]? = some (.ref a_13) ∧ (∃ k : Nat, k < 256 ∧ a_13 = zN X k) ∧ ∃ k_14 : Nat, k_14 < 256 ∧ a_13 = zN X k_14 ∧ ∀ v_15 : Int32, v_15 = vb_c k_14 → K (some (.int v_15)) g_9) KX) KX) KX) : zCal X (d + 1) yX1_knownSince wX1_knownSince [.ref a0, .int x1, .int x2] g K KX := by
  refine z_enter hok pn_X1 (Nat.le_of_ble_eq_true rfl) (fun E C hQ => ?_)
  have C : zC X (d + 1) E RX1 cX1_knownSince 4 (some .int) "knownSince" := C
  show GW X E 4 g 0 [(0, .ref a0), (1, .int x1), (2, .int x2)] []
  intro H locs ls hR hS hl
  refine lv_aload_n C.x C.b dX1_knownSince_0 rfl (lv_at hl 0 rfl) ?_
  refine lv_iload_n C.x C.b dX1_knownSince_1 rfl (lv_at hl 1 rfl) ?_
  refine z_callV C hR hS hl (n := 1) (C1 := RX1) (T := TX1) (N := 12) (ci := 1) (y := yX1_monitor) (bytes := cX1_monitor) (maxL := 2) (rt := (some (.object "LogGrammar$Monitor"))) (As := [.int x1]) (rest := []) h.1 rfl (lw_V q1522 q1524 qs24 q73 q1525) hdV_X1_monitor (by decide) rfl rfl (Nat.le_of_ble_eq_true rfl) dX1_knownSince_2 h.2 (fun r g_1 hk_ => ?_) (fun x g1 h => z_out C hQ h)
  clear h; obtain ⟨a_3, rfl, h⟩ := hk_
  show GW X E 4 g_1 5 [(0, .ref a0), (1, .int x1), (2, .int x2)] [.ref a_3]
  intro H locs ls hR hS hl
  refine lv_astore_n (lv' := [(3, .ref a_3), (0, .ref a0), (1, .int x1), (2, .int x2)]) C.x C.b dX1_knownSince_5 rfl hl (by decide) rfl (fun ls hl => ?_)
  refine lv_aload_n C.x C.b dX1_knownSince_6 rfl (lv_at hl 1 rfl) ?_
  refine lv_iload_n C.x C.b dX1_knownSince_7 rfl (lv_at hl 3 rfl) ?_
  refine z_callV C hR hS hl (n := 1) (C1 := RX1) (T := TX1) (N := 12) (ci := 1) (y := yX1_its) (bytes := cX1_its) (maxL := 2) (rt := (some (.object "LogGrammar$Event"))) (As := [.int x2]) (rest := []) h.1 rfl (lw_V q1478 q1480 qs23 q73 q1481) hdV_X1_its (by decide) rfl rfl (Nat.le_of_ble_eq_true rfl) dX1_knownSince_8 h.2 (fun r g_4 hk_ => ?_) (fun x g1 h => z_out C hQ h)
  clear h; obtain ⟨a_6, rfl, h⟩ := hk_
  show GW X E 4 g_4 11 [(3, .ref a_3), (0, .ref a0), (1, .int x1), (2, .int x2)] [.ref a_6]
  intro H locs ls hR hS hl
  refine lv_pop C.x C.b dX1_knownSince_11 rfl ?_
  refine lv_aload_n C.x C.b dX1_knownSince_12 rfl (lv_at hl 0 rfl) ?_
  obtain ⟨fs_7, a_8, q1, q2, h⟩ := h
  refine z_getN C hR q1 rfl (ci := 8) rfl in_X8 5 (by decide) q1443 (fun _ h => h) q2 dX1_knownSince_13 ?_
  refine lv_iload_n C.x C.b dX1_knownSince_16 rfl (lv_at hl 3 rfl) ?_
  refine z_callF C hR hS hl (n := 1) (C1 := RJ2) (T := TJ2) (N := 3) (ci := 0) (y := yJ2_get) (bytes := cJ2_get) (maxL := 2) (rt := (some (.object "java/lang/Object"))) (As := [.int x2]) (rest := []) (x := ⟨"java/util/List", "get", "(I)Ljava/lang/Object;"⟩) h.1 rfl (lw_F q378 q381 q383 q76 q385) ⟨C.ok.2.1 _ q380, C.ok.2.1 _ q379, C.ok.2.1 _ q384, C.ok.2.1 _ q382, C.ok.2.1 _ q174⟩ hdF_J2_get (by decide) rfl rfl (Nat.le_of_ble_eq_true rfl) dX1_knownSince_17 h.2 (fun r g_9 hk_ => ?_) (fun x g1 h => z_out C hQ h)
  clear h; obtain ⟨r_10, rfl, h⟩ := hk_
  show GW X E 4 g_9 22 [(3, .ref a_3), (0, .ref a0), (1, .int x1), (2, .int x2)] [va_rf r_10]
  intro H locs ls hR hS hl
  obtain ⟨a_11, e_, h⟩ := h; subst e_
  have hl : lv_has ls 4 [(3, .ref a_3), (0, .ref a0), (1, .int x1), (2, .int x2)] := by assumption
  show zV X E H locs (F0 (zm E) 22 ls [.ref a_11])
  refine z_castS C hR (ci := 6) (C1 := RX6) (T := TX6) (N := 2) h.1 rfl q1220 dX1_knownSince_22 ?_
  have h := h.2
  obtain ⟨fs_12, a_13, q1, q2, h⟩ := h
  refine z_getN C hR q1 rfl (ci := 6) rfl in_X6 1 (by decide) q1164 (fun _ h => h) q2 dX1_knownSince_25 ?_
  obtain ⟨q1, h⟩ := h
  refine z_castI C hR hS q1 q1221 dX1_knownSince_28 ?_
  obtain ⟨k_14, q0, q1, h⟩ := h
  rw [q1]
  have h := h _ rfl
  refine z_intValue C hR hS hl (lc := [(3, .ref a_3), (0, .ref a0), (1, .int x1), (2, .int x2)]) (rest := []) q0 q1222 (Nat.le_of_ble_eq_true rfl) dX1_knownSince_31 ?_
  generalize vb_c k_14 = v_15 at h ⊢
  show GW X E 4 g_9 34 [(3, .ref a_3), (0, .ref a0), (1, .int x1), (2, .int x2)] [.int v_15]
  intro H locs ls hR hS hl
  exact z_iret C hQ dX1_knownSince_34 h H locs ls hR hS hl
set_option maxHeartbeats 4000000 in
theorem bX1_answers_29 {X : zX} {d : Nat} {E : zM} {K : Option Value → zG → Prop} {KX : String → zG → Prop} (C : zC X (d + 1) E RX1 cX1_answers 7 (some .int) "answers") (hQ : zQ X E K KX) (g : zG) (x2 : Int32) (x4 : Int32) (a5 : Nat) (h : zIs g 11 a5 ∧ zCal X d yJ22_hasNext wJ22_hasNext [.ref a5] g (fun r g_1 => ∃ v_2 : Int32, r = some (.int v_2) ∧ zbo v_2 ∧ (v_2 = 0 → K (some (.int x4)) g_1) ∧ (¬ v_2 = 0 → zIs g_1 11 a5 ∧ zCal X d yJ22_next wJ22_next [.ref a5] g_1 (fun r g_3 => ∃ r_4 : Option Nat, r = some (va_rf r_4) ∧ ∃ a_5 : Nat, r_4 = some a_5 ∧ zIs g_3 6 a_5 ∧ ∃ (fs_6 : List Value) (a_7 : Nat), zGo g_3 6 a_5 = some fs_6 ∧ fs_6[0]? = some (.ref a_7) ∧ (∃ k : Nat, k < 256 ∧ a_7 = zN X k) ∧ ∃ k_8 : Nat, k_8 < 256 ∧ a_7 = zN X k_8 ∧ ∀ v_9 : Int32, v_9 = vb_c k_8 → (¬ v_9 = x2 → GW X E 7 g_3 29 [(2, .int x2), (4, .int (x4 + 0)), (5, .ref a5)] []) ∧ (v_9 = x2 → GW X E 7 g_3 29 [(2, .int x2), (4, .int (x4 + 1)), (5, .ref a5)] [])) KX)) KX) : GW X E 7 g 29 [(2, .int x2), (4, .int x4), (5, .ref a5)] [] := by
  intro H locs ls hR hS hl
  refine lv_aload C.x C.b dX1_answers_29 (lv_at hl 2 rfl) ?_
  refine z_callF C hR hS hl (n := 0) (C1 := RJ22) (T := TJ22) (N := 4) (ci := 11) (y := yJ22_hasNext) (bytes := cJ22_hasNext) (maxL := 1) (rt := (some .boolean)) (As := []) (rest := []) (x := ⟨"java/util/Iterator", "hasNext", "()Z"⟩) h.1 rfl (lw_F q353 q357 q359 q101 q361) ⟨C.ok.2.1 _ q355, C.ok.2.1 _ q354, C.ok.2.1 _ q360, C.ok.2.1 _ q358, C.ok.2.1 _ q356⟩ hdF_J22_hasNext (by decide) rfl rfl (Nat.le_of_ble_eq_true rfl) dX1_answers_31 h.2 (fun r g_1 hk_ => ?_) (fun x g1 h => z_out C hQ h)
  clear h; obtain ⟨v_2, rfl, zb_, h⟩ := hk_
  show GW X E 7 g_1 36 [(2, .int x2), (4, .int x4), (5, .ref a5)] [.int v_2]
  intro H locs ls hR hS hl
  obtain ⟨h1, h2⟩ := h
  refine lv_if_eq (tgt := 79) C.x C.b dX1_answers_36 (by decide) (fun c => ?_) (fun c => ?_)
  · have h := h1 c; clear h1 h2
    refine lv_iload C.x C.b dX1_answers_79 (lv_at hl 1 rfl) ?_
    exact z_iret C hQ dX1_answers_81 h H locs ls hR hS hl
  · have h := h2 c; clear h1 h2
    refine lv_aload C.x C.b dX1_answers_39 (lv_at hl 2 rfl) ?_
    refine z_callF C hR hS hl (n := 0) (C1 := RJ22) (T := TJ22) (N := 4) (ci := 11) (y := yJ22_next) (bytes := cJ22_next) (maxL := 3) (rt := (some (.object "java/lang/Object"))) (As := []) (rest := []) (x := ⟨"java/util/Iterator", "next", "()Ljava/lang/Object;"⟩) h.1 rfl (lw_F q363 q366 q368 q101 q370) ⟨C.ok.2.1 _ q365, C.ok.2.1 _ q364, C.ok.2.1 _ q369, C.ok.2.1 _ q367, C.ok.2.1 _ q356⟩ hdF_J22_next (by decide) rfl rfl (Nat.le_of_ble_eq_true rfl) dX1_answers_41 h.2 (fun r g_3 hk_ => ?_) (fun x g1 h => z_out C hQ h)
    clear h; obtain ⟨r_4, rfl, h⟩ := hk_
    show GW X E 7 g_3 46 [(2, .int x2), (4, .int x4), (5, .ref a5)] [va_rf r_4]
    intro H locs ls hR hS hl
    obtain ⟨a_5, e_, h⟩ := h; subst e_
    have hl : lv_has ls 7 [(2, .int x2), (4, .int x4), (5, .ref a5)] := by assumption
    show zV X E H locs (F0 (zm E) 46 ls [.ref a_5])
    refine z_castS C hR (ci := 6) (C1 := RX6) (T := TX6) (N := 2) h.1 rfl q1220 dX1_answers_46 ?_
    have h := h.2
    refine lv_astore (lv' := [(6, .ref a_5), (2, .int x2), (4, .int x4), (5, .ref a5)]) C.x C.b dX1_answers_49 hl (by decide) rfl (fun ls hl => ?_)
    refine lv_iload C.x C.b dX1_answers_51 (lv_at hl 2 rfl) ?_
    refine lv_aload C.x C.b dX1_answers_53 (lv_at hl 0 rfl) ?_
    obtain ⟨fs_6, a_7, q1, q2, h⟩ := h
    refine z_getN C hR q1 rfl (ci := 6) rfl in_X6 0 (by decide) q1162 (fun _ h => h) q2 dX1_answers_55 ?_
    obtain ⟨q1, h⟩ := h
    refine z_castI C hR hS q1 q1221 dX1_answers_58 ?_
    obtain ⟨k_8, q0, q1, h⟩ := h
    rw [q1]
    have h := h _ rfl
    refine z_intValue C hR hS hl (lc := [(6, .ref a_5), (2, .int x2), (4, .int x4), (5, .ref a5)]) (rest := [.int x4]) q0 q1222 (Nat.le_of_ble_eq_true rfl) dX1_answers_61 ?_
    generalize vb_c k_8 = v_9 at h ⊢
    show GW X E 7 g_3 64 [(6, .ref a_5), (2, .int x2), (4, .int x4), (5, .ref a5)] [.int v_9, .int x4]
    intro H locs ls hR hS hl
    refine lv_iload_n C.x C.b dX1_answers_64 rfl (lv_at hl 1 rfl) ?_
    obtain ⟨h1, h2⟩ := h
    refine lv_icmp_ne (tgt := 72) C.x C.b dX1_answers_65 (by decide) (fun c => ?_) (fun c => ?_)
    · have h := h1 c; clear h1 h2
      refine lv_iconst (v := 0) C.x C.b dX1_answers_72 (by decide) ?_
      refine lv_iadd C.x C.b dX1_answers_73 ?_
      refine lv_istore (lv' := [(4, .int (x4 + 0)), (6, .ref a_5), (2, .int x2), (5, .ref a5)]) C.x C.b dX1_answers_74 hl (by decide) rfl (fun ls hl => ?_)
      refine lv_goto (tgt := 29) C.x C.b dX1_answers_76 (by decide) ?_
      exact h H locs ls hR hS (lv_sub hl [2, 0, 3] rfl)
    · have h := h2 c; clear h1 h2
      refine lv_iconst (v := 1) C.x C.b dX1_answers_68 (by decide) ?_
      refine lv_goto (tgt := 73) C.x C.b dX1_answers_69 (by decide) ?_
      refine lv_iadd C.x C.b dX1_answers_73 ?_
      refine lv_istore (lv' := [(4, .int (x4 + 1)), (6, .ref a_5), (2, .int x2), (5, .ref a5)]) C.x C.b dX1_answers_74 hl (by decide) rfl (fun ls hl => ?_)
      refine lv_goto (tgt := 29) C.x C.b dX1_answers_76 (by decide) ?_
      exact h H locs ls hR hS (lv_sub hl [2, 0, 3] rfl)
set_option maxHeartbeats 4000000 in
theorem mX1_answers {X : zX} {d : Nat} {g : zG} {K : Option Value → zG → Prop} {KX : String → zG → Prop} (hok : zOk X) (a0 : Nat) (x1 : Int32) (x2 : Int32) (h : ∀ E : zM, zC X (d + 1) E RX1 cX1_answers 7 (some .int) "answers" → zQ X E K KX → zIs g 1 a0 ∧ zCal X d yX1_monitor wX1_monitor [.ref a0, .int x1] g (fun r g_1 => ∃ a_3 : Nat, r = some (.ref a_3) ∧ zCal X d yX1_isIn wX1_isIn [.int x2, .int 0, .int 2] g_1 (fun r g_4 => ∃ v_5 : Int32, r = some (.int v_5) ∧ zbo v_5 ∧ zCal X d yX1_check wX1_check [.int v_5] g_4 (fun r g_6 => r = none ∧ ∃ (fs_7 : List Value) (a_8 : Nat), zGo g_6 8 a_3 = some fs_7 ∧ fs_7[5]? = some (.ref a_8) ∧ zIs g_6 0 a_8 ∧ zCal X d yJ2_iterator wJ2_iterator [.ref a_8] g_6 (fun r g_9 => ∃ a_11 : Nat, r = some (.ref a_11) ∧ GW X E 7 g_9 29 [(2, .int x2), (4, .int 0), (5, .ref a_11)] []) KX) KX) KX) KX) : zCal X (d + 1) yX1_answers wX1_answers [.ref a0, .int x1, .int x2] g K KX := by
  refine z_enter hok pn_X1 (Nat.le_of_ble_eq_true rfl) (fun E C hQ => ?_)
  have C : zC X (d + 1) E RX1 cX1_answers 7 (some .int) "answers" := C
  have h := h E C hQ
  show GW X E 7 g 0 [(0, .ref a0), (1, .int x1), (2, .int x2)] []
  intro H locs ls hR hS hl
  refine lv_aload_n C.x C.b dX1_answers_0 rfl (lv_at hl 0 rfl) ?_
  refine lv_iload_n C.x C.b dX1_answers_1 rfl (lv_at hl 1 rfl) ?_
  refine z_callV C hR hS hl (n := 1) (C1 := RX1) (T := TX1) (N := 12) (ci := 1) (y := yX1_monitor) (bytes := cX1_monitor) (maxL := 2) (rt := (some (.object "LogGrammar$Monitor"))) (As := [.int x1]) (rest := []) h.1 rfl (lw_V q1522 q1524 qs24 q73 q1525) hdV_X1_monitor (by decide) rfl rfl (Nat.le_of_ble_eq_true rfl) dX1_answers_2 h.2 (fun r g_1 hk_ => ?_) (fun x g1 h => z_out C hQ h)
  clear h; obtain ⟨a_3, rfl, h⟩ := hk_
  show GW X E 7 g_1 5 [(0, .ref a0), (1, .int x1), (2, .int x2)] [.ref a_3]
  intro H locs ls hR hS hl
  refine lv_astore_n (lv' := [(3, .ref a_3), (0, .ref a0), (1, .int x1), (2, .int x2)]) C.x C.b dX1_answers_5 rfl hl (by decide) rfl (fun ls hl => ?_)
  refine lv_iload_n C.x C.b dX1_answers_6 rfl (lv_at hl 3 rfl) ?_
  refine lv_iconst (v := 0) C.x C.b dX1_answers_7 (by decide) ?_
  refine lv_iconst (v := 2) C.x C.b dX1_answers_8 (by decide) ?_
  refine z_callS C hR hS hl (n := 3) (y := yX1_isIn) (bytes := cX1_isIn) (maxL := 3) (rt := (some .boolean)) (As := [.int x2, .int 0, .int 2]) (rest := []) (lw_S q701 q702 q73 q703) hdS_X1_isIn (by decide) rfl rfl (Nat.le_of_ble_eq_true rfl) dX1_answers_9 h (fun r g_4 hk_ => ?_) (fun x g1 h => z_out C hQ h)
  clear h; obtain ⟨v_5, rfl, zb_, h⟩ := hk_
  show GW X E 7 g_4 12 [(3, .ref a_3), (0, .ref a0), (1, .int x1), (2, .int x2)] [.int v_5]
  intro H locs ls hR hS hl
  refine z_callS C hR hS hl (n := 1) (y := yX1_check) (bytes := cX1_check) (maxL := 1) (rt := none) (As := [.int v_5]) (rest := []) (lw_S q720 q721 q73 q722) hdS_X1_check (by decide) rfl rfl (Nat.le_of_ble_eq_true rfl) dX1_answers_12 h (fun r g_6 hk_ => ?_) (fun x g1 h => z_out C hQ h)
  clear h; obtain ⟨rfl, h⟩ := hk_
  show GW X E 7 g_6 15 [(3, .ref a_3), (0, .ref a0), (1, .int x1), (2, .int x2)] []
  intro H locs ls hR hS hl
  refine lv_iconst (v := 0) C.x C.b dX1_answers_15 (by decide) ?_
  refine lv_istore (lv' := [(4, .int 0), (3, .ref a_3), (0, .ref a0), (1, .int x1), (2, .int x2)]) C.x C.b dX1_answers_16 hl (by decide) rfl (fun ls hl => ?_)
  refine lv_aload_n C.x C.b dX1_answers_18 rfl (lv_at hl 1 rfl) ?_
  obtain ⟨fs_7, a_8, q1, q2, h⟩ := h
  refine z_getN C hR q1 rfl (ci := 8) rfl in_X8 5 (by decide) q1443 (fun _ h => h) q2 dX1_answers_19 ?_
  refine z_callF C hR hS hl (n := 0) (C1 := RJ2) (T := TJ2) (N := 3) (ci := 0) (y := yJ2_iterator) (bytes := cJ2_iterator) (maxL := 1) (rt := (some (.object "java/util/Iterator"))) (As := []) (rest := []) (x := ⟨"java/util/List", "iterator", "()Ljava/util/Iterator;"⟩) h.1 rfl (lw_F q325 q328 q330 q76 q332) ⟨C.ok.2.1 _ q327, C.ok.2.1 _ q326, C.ok.2.1 _ q331, C.ok.2.1 _ q329, C.ok.2.1 _ q174⟩ hdF_J2_iterator (by decide) rfl rfl (Nat.le_of_ble_eq_true rfl) dX1_answers_22 h.2 (fun r g_9 hk_ => ?_) (fun x g1 h => z_out C hQ h)
  clear h; obtain ⟨a_11, rfl, h⟩ := hk_
  show GW X E 7 g_9 27 [(4, .int 0), (3, .ref a_3), (0, .ref a0), (1, .int x1), (2, .int x2)] [.ref a_11]
  intro H locs ls hR hS hl
  refine lv_astore (lv' := [(5, .ref a_11), (4, .int 0), (3, .ref a_3), (0, .ref a0), (1, .int x1), (2, .int x2)]) C.x C.b dX1_answers_27 hl (by decide) rfl (fun ls hl => ?_)
  exact h H locs ls hR hS (lv_sub hl [5, 1, 0] rfl)
set_option maxHeartbeats 4000000 in
theorem mX1_takenBack {X : zX} {d : Nat} {g : zG} {K : Option Value → zG → Prop} {KX : String → zG → Prop} (hok : zOk X) (a0 : Nat) (x1 : Int32) (h : zIs g 1 a0 ∧ zCal X d yX1_monitor wX1_monitor [.ref a0, .int x1] g (fun r g_1 => ∃ a_3 : Nat, r = some (.ref a_3) ∧ ∃ (fs_4 : List Value) (v_5 : Int32), zGo g_1 8 a_3 = some fs_4 ∧ fs_4[6]? = some (.int v_5) ∧ K (some (.int v_5)) g_1) KX) : zCal X (d + 1) yX1_takenBack wX1_takenBack [.ref a0, .int x1] g K KX := by
  refine z_enter hok pn_X1 (Nat.le_of_ble_eq_true rfl) (fun E C hQ => ?_)
  have C : zC X (d + 1) E RX1 cX1_takenBack 2 (some .int) "takenBack" := C
  show GW X E 2 g 0 [(0, .ref a0), (1, .int x1)] []
  intro H locs ls hR hS hl
  refine lv_aload_n C.x C.b dX1_takenBack_0 rfl (lv_at hl 0 rfl) ?_
  refine lv_iload_n C.x C.b dX1_takenBack_1 rfl (lv_at hl 1 rfl) ?_
  refine z_callV C hR hS hl (n := 1) (C1 := RX1) (T := TX1) (N := 12) (ci := 1) (y := yX1_monitor) (bytes := cX1_monitor) (maxL := 2) (rt := (some (.object "LogGrammar$Monitor"))) (As := [.int x1]) (rest := []) h.1 rfl (lw_V q1522 q1524 qs24 q73 q1525) hdV_X1_monitor (by decide) rfl rfl (Nat.le_of_ble_eq_true rfl) dX1_takenBack_2 h.2 (fun r g_1 hk_ => ?_) (fun x g1 h => z_out C hQ h)
  clear h; obtain ⟨a_3, rfl, h⟩ := hk_
  show GW X E 2 g_1 5 [(0, .ref a0), (1, .int x1)] [.ref a_3]
  intro H locs ls hR hS hl
  obtain ⟨fs_4, v_5, q1, q2, h⟩ := h
  refine z_getN C hR q1 rfl (ci := 8) rfl in_X8 6 (by decide) q1445 (fun _ h => h) q2 dX1_takenBack_5 ?_
  exact z_iret C hQ dX1_takenBack_8 h H locs ls hR hS hl
set_option maxHeartbeats 4000000 in
theorem mX1_back {X : zX} {d : Nat} {g : zG} {K : Option Value → zG → Prop} {KX : String → zG → Prop} (hok : zOk X) (a0 : Nat) (x1 : Int32) (h : zIs g 1 a0 ∧ zCal X d yX1_monitor wX1_monitor [.ref a0, .int x1] g (fun r g_1 => ∃ a_3 : Nat, r = some (.ref a_3) ∧ ∃ (fs_4 : List Value) (a_5 : Nat), zGo g_1 8 a_3 = some fs_4 ∧ fs_4[0]? = some (.ref a_5) ∧ zIs g_1 7 a_5 ∧ zCal X d yX7_looks wX7_looks [.ref a_5, .int 0] g_1 (fun r g_6 => ∃ v_7 : Int32, r = some (.int v_7) ∧ K (some (.int v_7)) g_6) KX) KX) : zCal X (d + 1) yX1_back wX1_back [.ref a0, .int x1] g K KX := by
  refine z_enter hok pn_X1 (Nat.le_of_ble_eq_true rfl) (fun E C hQ => ?_)
  have C : zC X (d + 1) E RX1 cX1_back 2 (some .int) "back" := C
  show GW X E 2 g 0 [(0, .ref a0), (1, .int x1)] []
  intro H locs ls hR hS hl
  refine lv_aload_n C.x C.b dX1_back_0 rfl (lv_at hl 0 rfl) ?_
  refine lv_iload_n C.x C.b dX1_back_1 rfl (lv_at hl 1 rfl) ?_
  refine z_callV C hR hS hl (n := 1) (C1 := RX1) (T := TX1) (N := 12) (ci := 1) (y := yX1_monitor) (bytes := cX1_monitor) (maxL := 2) (rt := (some (.object "LogGrammar$Monitor"))) (As := [.int x1]) (rest := []) h.1 rfl (lw_V q1522 q1524 qs24 q73 q1525) hdV_X1_monitor (by decide) rfl rfl (Nat.le_of_ble_eq_true rfl) dX1_back_2 h.2 (fun r g_1 hk_ => ?_) (fun x g1 h => z_out C hQ h)
  clear h; obtain ⟨a_3, rfl, h⟩ := hk_
  show GW X E 2 g_1 5 [(0, .ref a0), (1, .int x1)] [.ref a_3]
  intro H locs ls hR hS hl
  obtain ⟨fs_4, a_5, q1, q2, h⟩ := h
  refine z_getN C hR q1 rfl (ci := 8) rfl in_X8 0 (by decide) q1435 (fun _ h => h) q2 dX1_back_5 ?_
  refine lv_iconst (v := 0) C.x C.b dX1_back_8 (by decide) ?_
  refine z_callV C hR hS hl (n := 1) (C1 := RX7) (T := TX7) (N := 7) (ci := 7) (y := yX7_looks) (bytes := cX7_looks) (maxL := 9) (rt := (some .int)) (As := [.int 0]) (rest := []) h.1 rfl (lw_V q1562 q1563 q1564 q106 q1565) hdV_X7_looks (by decide) rfl rfl (Nat.le_of_ble_eq_true rfl) dX1_back_9 h.2 (fun r g_6 hk_ => ?_) (fun x g1 h => z_out C hQ h)
  clear h; obtain ⟨v_7, rfl, h⟩ := hk_
  show GW X E 2 g_6 12 [(0, .ref a0), (1, .int x1)] [.int v_7]
  intro H locs ls hR hS hl
  exact z_iret C hQ dX1_back_12 h H locs ls hR hS hl
set_option maxHeartbeats 4000000 in
theorem mX1_ahead {X : zX} {d : Nat} {g : zG} {K : Option Value → zG → Prop} {KX : String → zG → Prop} (hok : zOk X) (a0 : Nat) (x1 : Int32) (h : zIs g 1 a0 ∧ zCal X d yX1_monitor wX1_monitor [.ref a0, .int x1] g (fun r g_1 => ∃ a_3 : Nat, r = some (.ref a_3) ∧ ∃ (fs_4 : List Value) (a_5 : Nat), zGo g_1 8 a_3 = some fs_4 ∧ fs_4[0]? = some (.ref a_5) ∧ zIs g_1 7 a_5 ∧ zCal X d yX7_looks wX7_looks [.ref a_5, .int 1] g_1 (fun r g_6 => ∃ v_7 : Int32, r = some (.int v_7) ∧ K (some (.int v_7)) g_6) KX) KX) : zCal X (d + 1) yX1_ahead wX1_ahead [.ref a0, .int x1] g K KX := by
  refine z_enter hok pn_X1 (Nat.le_of_ble_eq_true rfl) (fun E C hQ => ?_)
  have C : zC X (d + 1) E RX1 cX1_ahead 2 (some .int) "ahead" := C
  show GW X E 2 g 0 [(0, .ref a0), (1, .int x1)] []
  intro H locs ls hR hS hl
  refine lv_aload_n C.x C.b dX1_ahead_0 rfl (lv_at hl 0 rfl) ?_
  refine lv_iload_n C.x C.b dX1_ahead_1 rfl (lv_at hl 1 rfl) ?_
  refine z_callV C hR hS hl (n := 1) (C1 := RX1) (T := TX1) (N := 12) (ci := 1) (y := yX1_monitor) (bytes := cX1_monitor) (maxL := 2) (rt := (some (.object "LogGrammar$Monitor"))) (As := [.int x1]) (rest := []) h.1 rfl (lw_V q1522 q1524 qs24 q73 q1525) hdV_X1_monitor (by decide) rfl rfl (Nat.le_of_ble_eq_true rfl) dX1_ahead_2 h.2 (fun r g_1 hk_ => ?_) (fun x g1 h => z_out C hQ h)
  clear h; obtain ⟨a_3, rfl, h⟩ := hk_
  show GW X E 2 g_1 5 [(0, .ref a0), (1, .int x1)] [.ref a_3]
  intro H locs ls hR hS hl
  obtain ⟨fs_4, a_5, q1, q2, h⟩ := h
  refine z_getN C hR q1 rfl (ci := 8) rfl in_X8 0 (by decide) q1435 (fun _ h => h) q2 dX1_ahead_5 ?_
  refine lv_iconst (v := 1) C.x C.b dX1_ahead_8 (by decide) ?_
  refine z_callV C hR hS hl (n := 1) (C1 := RX7) (T := TX7) (N := 7) (ci := 7) (y := yX7_looks) (bytes := cX7_looks) (maxL := 9) (rt := (some .int)) (As := [.int 1]) (rest := []) h.1 rfl (lw_V q1562 q1563 q1564 q106 q1565) hdV_X7_looks (by decide) rfl rfl (Nat.le_of_ble_eq_true rfl) dX1_ahead_9 h.2 (fun r g_6 hk_ => ?_) (fun x g1 h => z_out C hQ h)
  clear h; obtain ⟨v_7, rfl, h⟩ := hk_
  show GW X E 2 g_6 12 [(0, .ref a0), (1, .int x1)] [.int v_7]
  intro H locs ls hR hS hl
  exact z_iret C hQ dX1_ahead_12 h H locs ls hR hS hl
set_option maxHeartbeats 4000000 in
theorem mX1_overOrders {X : zX} {d : Nat} {g : zG} {K : Option Value → zG → Prop} {KX : String → zG → Prop} (hok : zOk X) (a0 : Nat) (x1 : Int32) (x2 : Int32) (x3 : Int32) (h : zIs g 1 a0 ∧ zCal X d yX1_monitor wX1_monitor [.ref a0, .int x1] g (fun r g_1 => ∃ a_3 : Nat, r = some (.ref a_3) ∧ zIs g_1 1 a0 ∧ zCal X d yX1_its wX1_its [.ref a0, .int x2] g_1 (fun r g_4 => ∃ a_6 : Nat, r = some (.ref a_6) ∧ zCal X d yX1_isIn wX1_isIn [.int x3, .int 0, .int 2] g_4 (fun r g_7 => ∃ v_8 : Int32, r = some (.int v_8) ∧ zbo v_8 ∧ zCal X d yX1_check wX1_check [.int v_8] g_7 (fun r g_9 => r = none ∧ zIs g_9 1 a0 ∧ zCal X d yX1_orderMany wX1_orderMany [.ref a0] g_9 (fun r g_10 => ∃ v_11 : Int32, r = some (.int v_11) ∧ (120 < v_11 → zCal X d yX1_allow wX1_allow [.int 0] g_10 (fun r g_12 => r = none ∧ False) KX) ∧ (¬ 120 < v_11 → zCal X d yX1_allow wX1_allow [.int 1] g_10 (fun r g_13 => r = none ∧ zGz g_13 + 1 + 7 ≤ zz X ∧ ∀ a_14 : Nat, zFr g_13 a_14 → ∀ g_15 : zG, g_15 = zSz (zSo g_13 10 a_14 [.null, .null, .null, .int 0, .int 0, .int 0, .null]) (zGz g_13 + 1 + 7) → zCal X d yX10_init wX10_init [.ref a_14, .ref a0, .ref a_3, .ref a_6, .int x3] g_15 (fun r g_16 => r = none ∧ zIs g_16 10 a_14 ∧ zCal X d yX10_go wX10_go [.ref a_14] g_16 (fun r g_17 => r = none ∧ ∃ (fs_18 : List Value) (v_19 : Int32), zGo g_17 10 a_14 = some fs_18 ∧ fs_18[5]? = some (.int v_19) ∧ K (some (.int v_19)) g_17) KX) KX) KX)) KX) KX) KX) KX) KX) : zCal X (d + 1) yX1_overOrders wX1_overOrders [.ref a0, .int x1, .int x2, .int x3] g K KX := by
  refine z_enter hok pn_X1 (Nat.le_of_ble_eq_true rfl) (fun E C hQ => ?_)
  have C : zC X (d + 1) E RX1 cX1_overOrders 7 (some .int) "overOrders" := C
  show GW X E 7 g 0 [(0, .ref a0), (1, .int x1), (2, .int x2), (3, .int x3)] []
  intro H locs ls hR hS hl
  refine lv_aload_n C.x C.b dX1_overOrders_0 rfl (lv_at hl 0 rfl) ?_
  refine lv_iload_n C.x C.b dX1_overOrders_1 rfl (lv_at hl 1 rfl) ?_
  refine z_callV C hR hS hl (n := 1) (C1 := RX1) (T := TX1) (N := 12) (ci := 1) (y := yX1_monitor) (bytes := cX1_monitor) (maxL := 2) (rt := (some (.object "LogGrammar$Monitor"))) (As := [.int x1]) (rest := []) h.1 rfl (lw_V q1522 q1524 qs24 q73 q1525) hdV_X1_monitor (by decide) rfl rfl (Nat.le_of_ble_eq_true rfl) dX1_overOrders_2 h.2 (fun r g_1 hk_ => ?_) (fun x g1 h => z_out C hQ h)
  clear h; obtain ⟨a_3, rfl, h⟩ := hk_
  show GW X E 7 g_1 5 [(0, .ref a0), (1, .int x1), (2, .int x2), (3, .int x3)] [.ref a_3]
  intro H locs ls hR hS hl
  refine lv_astore (lv' := [(4, .ref a_3), (0, .ref a0), (1, .int x1), (2, .int x2), (3, .int x3)]) C.x C.b dX1_overOrders_5 hl (by decide) rfl (fun ls hl => ?_)
  refine lv_aload_n C.x C.b dX1_overOrders_7 rfl (lv_at hl 1 rfl) ?_
  refine lv_iload_n C.x C.b dX1_overOrders_8 rfl (lv_at hl 3 rfl) ?_
  refine z_callV C hR hS hl (n := 1) (C1 := RX1) (T := TX1) (N := 12) (ci := 1) (y := yX1_its) (bytes := cX1_its) (maxL := 2) (rt := (some (.object "LogGrammar$Event"))) (As := [.int x2]) (rest := []) h.1 rfl (lw_V q1478 q1480 qs23 q73 q1481) hdV_X1_its (by decide) rfl rfl (Nat.le_of_ble_eq_true rfl) dX1_overOrders_9 h.2 (fun r g_4 hk_ => ?_) (fun x g1 h => z_out C hQ h)
  clear h; obtain ⟨a_6, rfl, h⟩ := hk_
  show GW X E 7 g_4 12 [(4, .ref a_3), (0, .ref a0), (1, .int x1), (2, .int x2), (3, .int x3)] [.ref a_6]
  intro H locs ls hR hS hl
  refine lv_astore (lv' := [(5, .ref a_6), (4, .ref a_3), (0, .ref a0), (1, .int x1), (2, .int x2), (3, .int x3)]) C.x C.b dX1_overOrders_12 hl (by decide) rfl (fun ls hl => ?_)
  refine lv_iload_n C.x C.b dX1_overOrders_14 rfl (lv_at hl 5 rfl) ?_
  refine lv_iconst (v := 0) C.x C.b dX1_overOrders_15 (by decide) ?_
  refine lv_iconst (v := 2) C.x C.b dX1_overOrders_16 (by decide) ?_
  refine z_callS C hR hS hl (n := 3) (y := yX1_isIn) (bytes := cX1_isIn) (maxL := 3) (rt := (some .boolean)) (As := [.int x3, .int 0, .int 2]) (rest := []) (lw_S q701 q702 q73 q703) hdS_X1_isIn (by decide) rfl rfl (Nat.le_of_ble_eq_true rfl) dX1_overOrders_17 h (fun r g_7 hk_ => ?_) (fun x g1 h => z_out C hQ h)
  clear h; obtain ⟨v_8, rfl, zb_, h⟩ := hk_
  show GW X E 7 g_7 20 [(5, .ref a_6), (4, .ref a_3), (0, .ref a0), (1, .int x1), (2, .int x2), (3, .int x3)] [.int v_8]
  intro H locs ls hR hS hl
  refine z_callS C hR hS hl (n := 1) (y := yX1_check) (bytes := cX1_check) (maxL := 1) (rt := none) (As := [.int v_8]) (rest := []) (lw_S q720 q721 q73 q722) hdS_X1_check (by decide) rfl rfl (Nat.le_of_ble_eq_true rfl) dX1_overOrders_20 h (fun r g_9 hk_ => ?_) (fun x g1 h => z_out C hQ h)
  clear h; obtain ⟨rfl, h⟩ := hk_
  show GW X E 7 g_9 23 [(5, .ref a_6), (4, .ref a_3), (0, .ref a0), (1, .int x1), (2, .int x2), (3, .int x3)] []
  intro H locs ls hR hS hl
  refine lv_aload_n C.x C.b dX1_overOrders_23 rfl (lv_at hl 2 rfl) ?_
  refine z_callV C hR hS hl (n := 0) (C1 := RX1) (T := TX1) (N := 12) (ci := 1) (y := yX1_orderMany) (bytes := cX1_orderMany) (maxL := 2) (rt := (some .int)) (As := []) (rest := []) h.1 rfl (lw_V q405 q407 qs3 q73 q408) hdV_X1_orderMany (by decide) rfl rfl (Nat.le_of_ble_eq_true rfl) dX1_overOrders_24 h.2 (fun r g_10 hk_ => ?_) (fun x g1 h => z_out C hQ h)
  clear h; obtain ⟨v_11, rfl, h⟩ := hk_
  show GW X E 7 g_10 27 [(5, .ref a_6), (4, .ref a_3), (0, .ref a0), (1, .int x1), (2, .int x2), (3, .int x3)] [.int v_11]
  intro H locs ls hR hS hl
  refine lv_bipush (v := 120) C.x C.b dX1_overOrders_27 (by decide) ?_
  obtain ⟨h1, h2⟩ := h
  refine lv_icmp_gt (tgt := 36) C.x C.b dX1_overOrders_29 (by decide) (fun c => ?_) (fun c => ?_)
  · have h := h1 c; clear h1 h2
    refine lv_iconst (v := 0) C.x C.b dX1_overOrders_36 (by decide) ?_
    refine z_callS C hR hS hl (n := 1) (y := yX1_allow) (bytes := cX1_allow) (maxL := 1) (rt := none) (As := [.int 0]) (rest := []) (lw_S q758 q759 q73 q760) hdS_X1_allow (by decide) rfl rfl (Nat.le_of_ble_eq_true rfl) dX1_overOrders_37 h (fun r g_12 hk_ => ?_) (fun x g1 h => z_out C hQ h)
    exact hk_.2.elim
  · have h := h2 c; clear h1 h2
    refine lv_iconst (v := 1) C.x C.b dX1_overOrders_32 (by decide) ?_
    refine lv_goto (tgt := 37) C.x C.b dX1_overOrders_33 (by decide) ?_
    refine z_callS C hR hS hl (n := 1) (y := yX1_allow) (bytes := cX1_allow) (maxL := 1) (rt := none) (As := [.int 1]) (rest := []) (lw_S q758 q759 q73 q760) hdS_X1_allow (by decide) rfl rfl (Nat.le_of_ble_eq_true rfl) dX1_overOrders_37 h (fun r g_13 hk_ => ?_) (fun x g1 h => z_out C hQ h)
    clear h; obtain ⟨rfl, h⟩ := hk_
    show GW X E 7 g_13 40 [(5, .ref a_6), (4, .ref a_3), (0, .ref a0), (1, .int x1), (2, .int x2), (3, .int x3)] []
    intro H locs ls hR hS hl
    obtain ⟨q1, h⟩ := h
    refine z_new C hR hS 10 rfl (ci := 10) rfl in_X10 tyX10 tyX10_ok q409 q410 q109 (fs := [.null, .null, .null, .int 0, .int 0, .int 0, .null]) zdf_X10 q1 dX1_overOrders_40 (fun a_14 hf H hR hS => ?_)
    have h := h a_14 hf _ rfl
    generalize zSz (zSo g_13 10 a_14 [.null, .null, .null, .int 0, .int 0, .int 0, .null]) (zGz g_13 + 1 + 7) = g_15 at h hR
    refine lv_dup C.x C.b dX1_overOrders_43 rfl ?_
    refine lv_aload_n C.x C.b dX1_overOrders_44 rfl (lv_at hl 2 rfl) ?_
    refine lv_aload C.x C.b dX1_overOrders_45 (lv_at hl 1 rfl) ?_
    refine lv_aload C.x C.b dX1_overOrders_47 (lv_at hl 0 rfl) ?_
    refine lv_iload_n C.x C.b dX1_overOrders_49 rfl (lv_at hl 5 rfl) ?_
    refine z_callI C hR hS hl (n := 4) (y := yX10_init) (bytes := cX10_init) (maxL := 5) (As := [.ref a0, .ref a_3, .ref a_6, .int x3]) (rest := [.ref a_14]) (lw_meth q413) q109 q411 q412 rfl hdS_X10_init (by decide) rfl rfl (Nat.le_of_ble_eq_true rfl) dX1_overOrders_50 h (fun r g_16 hk_ => ?_) (fun x g1 h => z_out C hQ h)
    clear h; obtain ⟨rfl, h⟩ := hk_
    show GW X E 7 g_16 53 [(5, .ref a_6), (4, .ref a_3), (0, .ref a0), (1, .int x1), (2, .int x2), (3, .int x3)] [.ref a_14]
    intro H locs ls hR hS hl
    refine lv_astore (lv' := [(6, .ref a_14), (5, .ref a_6), (4, .ref a_3), (0, .ref a0), (1, .int x1), (2, .int x2), (3, .int x3)]) C.x C.b dX1_overOrders_53 hl (by decide) rfl (fun ls hl => ?_)
    refine lv_aload C.x C.b dX1_overOrders_55 (lv_at hl 0 rfl) ?_
    refine z_callV C hR hS hl (n := 0) (C1 := RX10) (T := TX10) (N := 7) (ci := 10) (y := yX10_go) (bytes := cX10_go) (maxL := 6) (rt := none) (As := []) (rest := []) h.1 rfl (lw_V q441 q442 q443 q109 q444) hdV_X10_go (by decide) rfl rfl (Nat.le_of_ble_eq_true rfl) dX1_overOrders_57 h.2 (fun r g_17 hk_ => ?_) (fun x g1 h => z_out C hQ h)
    clear h; obtain ⟨rfl, h⟩ := hk_
    show GW X E 7 g_17 60 [(6, .ref a_14), (5, .ref a_6), (4, .ref a_3), (0, .ref a0), (1, .int x1), (2, .int x2), (3, .int x3)] []
    intro H locs ls hR hS hl
    refine lv_aload C.x C.b dX1_overOrders_60 (lv_at hl 0 rfl) ?_
    obtain ⟨fs_18, v_19, q1, q2, h⟩ := h
    refine z_getN C hR q1 rfl (ci := 10) rfl in_X10 5 (by decide) q424 (fun _ h => h) q2 dX1_overOrders_62 ?_
    exact z_iret C hQ dX1_overOrders_65 h H locs ls hR hS hl
set_option maxHeartbeats 4000000 in
theorem bX1_does_26 {X : zX} {d : Nat} {E : zM} {K : Option Value → zG → Prop} {KX : String → zG → Prop} (C : zC X (d + 1) E RX1 cX1_does 6 (some .boolean) "does") (hQ : zQ X E K KX) (g : zG) (a0 : Nat) (a1 : Nat) (a2 : Nat) (x3 : Int32) (a4 : Nat) (x5 : Int32) (h : ∃ (fs_1 : List Value) (a_2 : Nat), zGo g 1 a0 = some fs_1 ∧ fs_1[3]? = some (.ref a_2) ∧ zIs g 0 a_2 ∧ zCal X d yJ2_size wJ2_size [.ref a_2] g (fun r g_3 => ∃ v_4 : Int32, r = some (.int v_4) ∧ (v_4 ≤ x5 → GW X E 6 g_3 95 [(0, .ref a0), (1, .ref a1), (2, .ref a2), (3, .int x3), (4, .ref a4)] []) ∧ (¬ v_4 ≤ x5 → (¬ x3 = 0 → GW X E 6 g_3 95 [(0, .ref a0), (1, .ref a1), (2, .ref a2), (3, .int x3), (4, .ref a4)] []) ∧ (x3 = 0 → ∃ (fs_5 : List Value) (a_6 : Nat), zGo g_3 1 a0 = some fs_5 ∧ fs_5[3]? = some (.ref a_6) ∧ zIs g_3 0 a_6 ∧ zCal X d yJ2_get wJ2_get [.ref a_6, .int x5] g_3 (fun r g_7 => ∃ r_8 : Option Nat, r = some (va_rf r_8) ∧ zIs g_7 0 a4 ∧ zCal X d yJ2_contains wJ2_contains [.ref a4, va_rf r_8] g_7 (fun r g_9 => ∃ v_10 : Int32, r = some (.int v_10) ∧ zbo v_10 ∧ (¬ v_10 = 0 → GW X E 6 g_9 26 [(0, .ref a0), (1, .ref a1), (2, .ref a2), (3, .int x3), (4, .ref a4), (5, .int (x5 + 1))] []) ∧ (v_10 = 0 → ∃ (fs_11 : List Value) (a_12 : Nat), zGo g_9 1 a0 = some fs_11 ∧ fs_11[11]? = some (.ref a_12) ∧ ∃ (fs_13 : List Value) (a_14 : Nat), zGo g_9 1 a0 = some fs_13 ∧ fs_13[3]? = some (.ref a_14) ∧ zIs g_9 0 a_14 ∧ zCal X d yJ2_get wJ2_get [.ref a_14, .int x5] g_9 (fun r g_15 => ∃ r_16 : Option Nat, r = some (va_rf r_16) ∧ ∃ a_17 : Nat, r_16 = some a_17 ∧ zIs g_15 4 a_17 ∧ zIs g_15 0 a_12 ∧ zCal X d yJ2_add wJ2_add [.ref a_12, .ref a_17] g_15 (fun r g_18 => ∃ v_19 : Int32, r = some (.int v_19) ∧ zbo v_19 ∧ GW X E 6 g_18 26 [(0, .ref a0), (1, .ref a1), (2, .ref a2), (3, .int x3), (4, .ref a4), (5, .int (x5 + 1))] []) KX) KX)) KX) KX))) KX) : GW X E 6 g 26 [(0, .ref a0), (1, .ref a1), (2, .ref a2), (3, .int x3), (4, .ref a4), (5, .int x5)] [] := by
  intro H locs ls hR hS hl
  refine lv_iload C.x C.b dX1_does_26 (lv_at hl 5 rfl) ?_
  refine lv_aload_n C.x C.b dX1_does_28 rfl (lv_at hl 0 rfl) ?_
  obtain ⟨fs_1, a_2, q1, q2, h⟩ := h
  refine z_get C hR q1 rfl (ci := 1) rfl in_X1 3 (by decide) q248 (fun _ h => h) q2 dX1_does_29 ?_
  refine z_callF C hR hS hl (n := 0) (C1 := RJ2) (T := TJ2) (N := 3) (ci := 0) (y := yJ2_size) (bytes := cJ2_size) (maxL := 1) (rt := (some .int)) (As := []) (rest := [.int x5]) (x := ⟨"java/util/List", "size", "()I"⟩) h.1 rfl (lw_F q291 q294 q296 q76 q298) ⟨C.ok.2.1 _ q293, C.ok.2.1 _ q292, C.ok.2.1 _ q297, C.ok.2.1 _ q295, C.ok.2.1 _ q174⟩ hdF_J2_size (by decide) rfl rfl (Nat.le_of_ble_eq_true rfl) dX1_does_32 h.2 (fun r g_3 hk_ => ?_) (fun x g1 h => z_out C hQ h)
  clear h; obtain ⟨v_4, rfl, h⟩ := hk_
  show GW X E 6 g_3 37 [(0, .ref a0), (1, .ref a1), (2, .ref a2), (3, .int x3), (4, .ref a4), (5, .int x5)] [.int v_4, .int x5]
  intro H locs ls hR hS hl
  obtain ⟨h1, h2⟩ := h
  refine lv_icmp_ge (tgt := 95) C.x C.b dX1_does_37 (by decide) (fun c => ?_) (fun c => ?_)
  · have h := h1 c; clear h1 h2
    exact h H locs ls hR hS (lv_sub hl [0, 1, 2, 3, 4] rfl)
  · have h := h2 c; clear h1 h2
    refine lv_iload_n C.x C.b dX1_does_40 rfl (lv_at hl 3 rfl) ?_
    obtain ⟨h1, h2⟩ := h
    refine lv_if_ne (tgt := 95) C.x C.b dX1_does_41 (by decide) (fun c => ?_) (fun c => ?_)
    · have h := h1 c; clear h1 h2
      exact h H locs ls hR hS (lv_sub hl [0, 1, 2, 3, 4] rfl)
    · have h := h2 c; clear h1 h2
      refine lv_aload C.x C.b dX1_does_44 (lv_at hl 4 rfl) ?_
      refine lv_aload_n C.x C.b dX1_does_46 rfl (lv_at hl 0 rfl) ?_
      obtain ⟨fs_5, a_6, q1, q2, h⟩ := h
      refine z_get C hR q1 rfl (ci := 1) rfl in_X1 3 (by decide) q248 (fun _ h => h) q2 dX1_does_47 ?_
      refine lv_iload C.x C.b dX1_does_50 (lv_at hl 5 rfl) ?_
      refine z_callF C hR hS hl (n := 1) (C1 := RJ2) (T := TJ2) (N := 3) (ci := 0) (y := yJ2_get) (bytes := cJ2_get) (maxL := 2) (rt := (some (.object "java/lang/Object"))) (As := [.int x5]) (rest := [.ref a4]) (x := ⟨"java/util/List", "get", "(I)Ljava/lang/Object;"⟩) h.1 rfl (lw_F q378 q381 q383 q76 q385) ⟨C.ok.2.1 _ q380, C.ok.2.1 _ q379, C.ok.2.1 _ q384, C.ok.2.1 _ q382, C.ok.2.1 _ q174⟩ hdF_J2_get (by decide) rfl rfl (Nat.le_of_ble_eq_true rfl) dX1_does_52 h.2 (fun r g_7 hk_ => ?_) (fun x g1 h => z_out C hQ h)
      clear h; obtain ⟨r_8, rfl, h⟩ := hk_
      show GW X E 6 g_7 57 [(0, .ref a0), (1, .ref a1), (2, .ref a2), (3, .int x3), (4, .ref a4), (5, .int x5)] [va_rf r_8, .ref a4]
      intro H locs ls hR hS hl
      refine z_callF C hR hS hl (n := 1) (C1 := RJ2) (T := TJ2) (N := 3) (ci := 0) (y := yJ2_contains) (bytes := cJ2_contains) (maxL := 2) (rt := (some .boolean)) (As := [va_rf r_8]) (rest := []) (x := ⟨"java/util/List", "contains", "(Ljava/lang/Object;)Z"⟩) h.1 rfl (lw_F q1609 q590 q592 q76 q594) ⟨C.ok.2.1 _ q589, C.ok.2.1 _ q588, C.ok.2.1 _ q593, C.ok.2.1 _ q591, C.ok.2.1 _ q174⟩ hdF_J2_contains (by decide) rfl rfl (Nat.le_of_ble_eq_true rfl) dX1_does_57 h.2 (fun r g_9 hk_ => ?_) (fun x g1 h => z_out C hQ h)
      clear h; obtain ⟨v_10, rfl, zb_, h⟩ := hk_
      show GW X E 6 g_9 62 [(0, .ref a0), (1, .ref a1), (2, .ref a2), (3, .int x3), (4, .ref a4), (5, .int x5)] [.int v_10]
      intro H locs ls hR hS hl
      obtain ⟨h1, h2⟩ := h
      refine lv_if_ne (tgt := 89) C.x C.b dX1_does_62 (by decide) (fun c => ?_) (fun c => ?_)
      · have h := h1 c; clear h1 h2
        refine lv_iinc (v := x5 + 1) (lv' := [(5, .int (x5 + 1)), (0, .ref a0), (1, .ref a1), (2, .ref a2), (3, .int x3), (4, .ref a4)]) C.x C.b dX1_does_89 hl (k := 5) rfl rfl (by decide) rfl (fun ls hl => ?_)
        refine lv_goto (tgt := 26) C.x C.b dX1_does_92 (by decide) ?_
        exact h H locs ls hR hS (lv_sub hl [1, 2, 3, 4, 5, 0] rfl)
      · have h := h2 c; clear h1 h2
        refine lv_aload_n C.x C.b dX1_does_65 rfl (lv_at hl 0 rfl) ?_
        obtain ⟨fs_11, a_12, q1, q2, h⟩ := h
        refine z_get C hR q1 rfl (ci := 1) rfl in_X1 11 (by decide) q260 (fun _ h => h) q2 dX1_does_66 ?_
        refine lv_aload_n C.x C.b dX1_does_69 rfl (lv_at hl 0 rfl) ?_
        obtain ⟨fs_13, a_14, q1, q2, h⟩ := h
        refine z_get C hR q1 rfl (ci := 1) rfl in_X1 3 (by decide) q248 (fun _ h => h) q2 dX1_does_70 ?_
        refine lv_iload C.x C.b dX1_does_73 (lv_at hl 5 rfl) ?_
        refine z_callF C hR hS hl (n := 1) (C1 := RJ2) (T := TJ2) (N := 3) (ci := 0) (y := yJ2_get) (bytes := cJ2_get) (maxL := 2) (rt := (some (.object "java/lang/Object"))) (As := [.int x5]) (rest := [.ref a_12]) (x := ⟨"java/util/List", "get", "(I)Ljava/lang/Object;"⟩) h.1 rfl (lw_F q378 q381 q383 q76 q385) ⟨C.ok.2.1 _ q380, C.ok.2.1 _ q379, C.ok.2.1 _ q384, C.ok.2.1 _ q382, C.ok.2.1 _ q174⟩ hdF_J2_get (by decide) rfl rfl (Nat.le_of_ble_eq_true rfl) dX1_does_75 h.2 (fun r g_15 hk_ => ?_) (fun x g1 h => z_out C hQ h)
        clear h; obtain ⟨r_16, rfl, h⟩ := hk_
        show GW X E 6 g_15 80 [(0, .ref a0), (1, .ref a1), (2, .ref a2), (3, .int x3), (4, .ref a4), (5, .int x5)] [va_rf r_16, .ref a_12]
        intro H locs ls hR hS hl
        obtain ⟨a_17, e_, h⟩ := h; subst e_
        have hl : lv_has ls 6 [(0, .ref a0), (1, .ref a1), (2, .ref a2), (3, .int x3), (4, .ref a4), (5, .int x5)] := by assumption
        show zV X E H locs (F0 (zm E) 80 ls [.ref a_17, .ref a_12])
        refine z_castS C hR (ci := 4) (C1 := RX4) (T := TX4) (N := 7) h.1 rfl q455 dX1_does_80 ?_
        have h := h.2
        refine z_callF C hR hS hl (n := 1) (C1 := RJ2) (T := TJ2) (N := 3) (ci := 0) (y := yJ2_add) (bytes := cJ2_add) (maxL := 2) (rt := (some .boolean)) (As := [.ref a_17]) (rest := []) (x := ⟨"java/util/List", "add", "(Ljava/lang/Object;)Z"⟩) h.1 rfl (lw_F q171 q175 q177 q76 q179) ⟨C.ok.2.1 _ q173, C.ok.2.1 _ q172, C.ok.2.1 _ q178, C.ok.2.1 _ q176, C.ok.2.1 _ q174⟩ hdF_J2_add (by decide) rfl rfl (Nat.le_of_ble_eq_true rfl) dX1_does_83 h.2 (fun r g_18 hk_ => ?_) (fun x g1 h => z_out C hQ h)
        clear h; obtain ⟨v_19, rfl, zb_, h⟩ := hk_
        show GW X E 6 g_18 88 [(0, .ref a0), (1, .ref a1), (2, .ref a2), (3, .int x3), (4, .ref a4), (5, .int x5)] [.int v_19]
        intro H locs ls hR hS hl
        refine lv_pop C.x C.b dX1_does_88 rfl ?_
        refine lv_iinc (v := x5 + 1) (lv' := [(5, .int (x5 + 1)), (0, .ref a0), (1, .ref a1), (2, .ref a2), (3, .int x3), (4, .ref a4)]) C.x C.b dX1_does_89 hl (k := 5) rfl rfl (by decide) rfl (fun ls hl => ?_)
        refine lv_goto (tgt := 26) C.x C.b dX1_does_92 (by decide) ?_
        exact h H locs ls hR hS (lv_sub hl [1, 2, 3, 4, 5, 0] rfl)
set_option maxHeartbeats 4000000 in
theorem bX1_does_95 {X : zX} {d : Nat} {E : zM} {K : Option Value → zG → Prop} {KX : String → zG → Prop} (C : zC X (d + 1) E RX1 cX1_does 6 (some .boolean) "does") (hQ : zQ X E K KX) (g : zG) (a0 : Nat) (a1 : Nat) (a2 : Nat) (x3 : Int32) (a4 : Nat) (h : (x3 = 0 → ∃ (fs_1 : List Value) (a_2 : Nat), zGo g 1 a0 = some fs_1 ∧ fs_1[11]? = some (.ref a_2) ∧ GW X E 6 g 110 [(3, .int x3)] [.ref a_2, .ref a2, .ref a1]) ∧ (¬ x3 = 0 → GW X E 6 g 110 [(3, .int x3)] [.ref a4, .ref a2, .ref a1])) : GW X E 6 g 95 [(0, .ref a0), (1, .ref a1), (2, .ref a2), (3, .int x3), (4, .ref a4)] [] := by
  intro H locs ls hR hS hl
  refine lv_aload_n C.x C.b dX1_does_95 rfl (lv_at hl 1 rfl) ?_
  refine lv_aload_n C.x C.b dX1_does_96 rfl (lv_at hl 2 rfl) ?_
  refine lv_iload_n C.x C.b dX1_does_97 rfl (lv_at hl 3 rfl) ?_
  obtain ⟨h1, h2⟩ := h
  refine lv_if_eq (tgt := 106) C.x C.b dX1_does_98 (by decide) (fun c => ?_) (fun c => ?_)
  · have h := h1 c; clear h1 h2
    refine lv_aload_n C.x C.b dX1_does_106 rfl (lv_at hl 0 rfl) ?_
    obtain ⟨fs_1, a_2, q1, q2, h⟩ := h
    refine z_get C hR q1 rfl (ci := 1) rfl in_X1 11 (by decide) q260 (fun _ h => h) q2 dX1_does_107 ?_
    exact h H locs ls hR hS (lv_sub hl [3] rfl)
  · have h := h2 c; clear h1 h2
    refine lv_aload C.x C.b dX1_does_101 (lv_at hl 4 rfl) ?_
    refine lv_goto (tgt := 110) C.x C.b dX1_does_103 (by decide) ?_
    exact h H locs ls hR hS (lv_sub hl [3] rfl)
set_option maxHeartbeats 4000000 in
theorem bX1_does_110 {X : zX} {d : Nat} {E : zM} {K : Option Value → zG → Prop} {KX : String → zG → Prop} (C : zC X (d + 1) E RX1 cX1_does 6 (some .boolean) "does") (hQ : zQ X E K KX) (g : zG) (x3 : Int32) (b0 : Nat) (b1 : Nat) (b2 : Nat) (h : zIs g 8 b0 ∧ zCal X d yX8_answerFor wX8_answerFor [.ref b0, .ref b1, .ref b2, .int 0] g (fun r g_1 => ∃ v_2 : Int32, r = some (.int v_2) ∧ (¬ v_2 = 0 → (¬ 0 = x3 → K (some (.int 0)) g_1) ∧ (0 = x3 → K (some (.int 1)) g_1)) ∧ (v_2 = 0 → (¬ 1 = x3 → K (some (.int 0)) g_1) ∧ (1 = x3 → K (some (.int 1)) g_1))) KX) : GW X E 6 g 110 [(3, .int x3)] [.ref b2, .ref b1, .ref b0] := by
  intro H locs ls hR hS hl
  refine lv_iconst (v := 0) C.x C.b dX1_does_110 (by decide) ?_
  refine z_callV C hR hS hl (n := 3) (C1 := RX8) (T := TX8) (N := 8) (ci := 8) (y := yX8_answerFor) (bytes := cX8_answerFor) (maxL := 8) (rt := (some .int)) (As := [.ref b1, .ref b2, .int 0]) (rest := []) h.1 rfl (lw_V q1533 q448 q449 q107 q450) hdV_X8_answerFor (by decide) rfl rfl (Nat.le_of_ble_eq_true rfl) dX1_does_111 h.2 (fun r g_1 hk_ => ?_) (fun x g1 h => z_out C hQ h)
  clear h; obtain ⟨v_2, rfl, h⟩ := hk_
  show GW X E 6 g_1 114 [(3, .int x3)] [.int v_2]
  intro H locs ls hR hS hl
  obtain ⟨h1, h2⟩ := h
  refine lv_if_ne (tgt := 121) C.x C.b dX1_does_114 (by decide) (fun c => ?_) (fun c => ?_)
  · have h := h1 c; clear h1 h2
    refine lv_iconst (v := 0) C.x C.b dX1_does_121 (by decide) ?_
    refine lv_iload_n C.x C.b dX1_does_122 rfl (lv_at hl 0 rfl) ?_
    obtain ⟨h1, h2⟩ := h
    refine lv_icmp_ne (tgt := 130) C.x C.b dX1_does_123 (by decide) (fun c => ?_) (fun c => ?_)
    · have h := h1 c; clear h1 h2
      refine lv_iconst (v := 0) C.x C.b dX1_does_130 (by decide) ?_
      exact z_zret C hQ rfl dX1_does_131 h H locs ls hR hS hl
    · have h := h2 c; clear h1 h2
      refine lv_iconst (v := 1) C.x C.b dX1_does_126 (by decide) ?_
      refine lv_goto (tgt := 131) C.x C.b dX1_does_127 (by decide) ?_
      exact z_zret C hQ rfl dX1_does_131 h H locs ls hR hS hl
  · have h := h2 c; clear h1 h2
    refine lv_iconst (v := 1) C.x C.b dX1_does_117 (by decide) ?_
    refine lv_goto (tgt := 122) C.x C.b dX1_does_118 (by decide) ?_
    refine lv_iload_n C.x C.b dX1_does_122 rfl (lv_at hl 0 rfl) ?_
    obtain ⟨h1, h2⟩ := h
    refine lv_icmp_ne (tgt := 130) C.x C.b dX1_does_123 (by decide) (fun c => ?_) (fun c => ?_)
    · have h := h1 c; clear h1 h2
      refine lv_iconst (v := 0) C.x C.b dX1_does_130 (by decide) ?_
      exact z_zret C hQ rfl dX1_does_131 h H locs ls hR hS hl
    · have h := h2 c; clear h1 h2
      refine lv_iconst (v := 1) C.x C.b dX1_does_126 (by decide) ?_
      refine lv_goto (tgt := 131) C.x C.b dX1_does_127 (by decide) ?_
      exact z_zret C hQ rfl dX1_does_131 h H locs ls hR hS hl
set_option maxHeartbeats 4000000 in
theorem mX1_does {X : zX} {d : Nat} {g : zG} {K : Option Value → zG → Prop} {KX : String → zG → Prop} (hok : zOk X) (a0 : Nat) (a1 : Nat) (a2 : Nat) (x3 : Int32) (a4 : Nat) (h : ∀ E : zM, zC X (d + 1) E RX1 cX1_does 6 (some .boolean) "does" → zQ X E K KX → zIs g 0 a4 ∧ zCal X d yJ2_contains wJ2_contains [.ref a4, .ref a2] g (fun r g_1 => ∃ v_2 : Int32, r = some (.int v_2) ∧ zbo v_2 ∧ (v_2 = x3 → ∃ (fs_3 : List Value) (a_4 : Nat), zGo g_1 1 a0 = some fs_3 ∧ fs_3[11]? = some (.ref a_4) ∧ zIs g_1 0 a_4 ∧ zCal X d yJ2_clear wJ2_clear [.ref a_4] g_1 (fun r g_5 => r = none ∧ GW X E 6 g_5 26 [(0, .ref a0), (1, .ref a1), (2, .ref a2), (3, .int x3), (4, .ref a4), (5, .int 0)] []) KX) ∧ (¬ v_2 = x3 → K (some (.int 0)) g_1)) KX) : zCal X (d + 1) yX1_does wX1_does [.ref a0, .ref a1, .ref a2, .int x3, .ref a4] g K KX := by
  refine z_enter hok pn_X1 (Nat.le_of_ble_eq_true rfl) (fun E C hQ => ?_)
  have C : zC X (d + 1) E RX1 cX1_does 6 (some .boolean) "does" := C
  have h := h E C hQ
  show GW X E 6 g 0 [(0, .ref a0), (1, .ref a1), (2, .ref a2), (3, .int x3), (4, .ref a4)] []
  intro H locs ls hR hS hl
  refine lv_aload C.x C.b dX1_does_0 (lv_at hl 4 rfl) ?_
  refine lv_aload_n C.x C.b dX1_does_2 rfl (lv_at hl 2 rfl) ?_
  refine z_callF C hR hS hl (n := 1) (C1 := RJ2) (T := TJ2) (N := 3) (ci := 0) (y := yJ2_contains) (bytes := cJ2_contains) (maxL := 2) (rt := (some .boolean)) (As := [.ref a2]) (rest := []) (x := ⟨"java/util/List", "contains", "(Ljava/lang/Object;)Z"⟩) h.1 rfl (lw_F q1609 q590 q592 q76 q594) ⟨C.ok.2.1 _ q589, C.ok.2.1 _ q588, C.ok.2.1 _ q593, C.ok.2.1 _ q591, C.ok.2.1 _ q174⟩ hdF_J2_contains (by decide) rfl rfl (Nat.le_of_ble_eq_true rfl) dX1_does_3 h.2 (fun r g_1 hk_ => ?_) (fun x g1 h => z_out C hQ h)
  clear h; obtain ⟨v_2, rfl, zb_, h⟩ := hk_
  show GW X E 6 g_1 8 [(0, .ref a0), (1, .ref a1), (2, .ref a2), (3, .int x3), (4, .ref a4)] [.int v_2]
  intro H locs ls hR hS hl
  refine lv_iload_n C.x C.b dX1_does_8 rfl (lv_at hl 3 rfl) ?_
  obtain ⟨h1, h2⟩ := h
  refine lv_icmp_eq (tgt := 14) C.x C.b dX1_does_9 (by decide) (fun c => ?_) (fun c => ?_)
  · have h := h1 c; clear h1 h2
    refine lv_aload_n C.x C.b dX1_does_14 rfl (lv_at hl 0 rfl) ?_
    obtain ⟨fs_3, a_4, q1, q2, h⟩ := h
    refine z_get C hR q1 rfl (ci := 1) rfl in_X1 11 (by decide) q260 (fun _ h => h) q2 dX1_does_15 ?_
    refine z_callF C hR hS hl (n := 0) (C1 := RJ2) (T := TJ2) (N := 3) (ci := 0) (y := yJ2_clear) (bytes := cJ2_clear) (maxL := 4) (rt := none) (As := []) (rest := []) (x := ⟨"java/util/List", "clear", "()V"⟩) h.1 rfl (lw_F q300 q303 q305 q76 q307) ⟨C.ok.2.1 _ q302, C.ok.2.1 _ q301, C.ok.2.1 _ q306, C.ok.2.1 _ q304, C.ok.2.1 _ q174⟩ hdF_J2_clear (by decide) rfl rfl (Nat.le_of_ble_eq_true rfl) dX1_does_18 h.2 (fun r g_5 hk_ => ?_) (fun x g1 h => z_out C hQ h)
    clear h; obtain ⟨rfl, h⟩ := hk_
    show GW X E 6 g_5 23 [(0, .ref a0), (1, .ref a1), (2, .ref a2), (3, .int x3), (4, .ref a4)] []
    intro H locs ls hR hS hl
    refine lv_iconst (v := 0) C.x C.b dX1_does_23 (by decide) ?_
    refine lv_istore (lv' := [(5, .int 0), (0, .ref a0), (1, .ref a1), (2, .ref a2), (3, .int x3), (4, .ref a4)]) C.x C.b dX1_does_24 hl (by decide) rfl (fun ls hl => ?_)
    exact h H locs ls hR hS (lv_sub hl [1, 2, 3, 4, 5, 0] rfl)
  · have h := h2 c; clear h1 h2
    refine lv_iconst (v := 0) C.x C.b dX1_does_12 (by decide) ?_
    exact z_zret C hQ rfl dX1_does_13 h H locs ls hR hS hl
theorem hdV_X1_choose : yX1_choose.cls = RX1 ∧ yX1_choose.cls ≠ "java/lang/invoke/MethodHandle" ∧ yX1_choose.cls ≠ "java/lang/invoke/VarHandle" ∧ (parseMethodDescriptor yX1_choose.desc).map (fun d => d.parameters.length) = some 6 := by decide +kernel
theorem hdV_X1_does : yX1_does.cls = RX1 ∧ yX1_does.cls ≠ "java/lang/invoke/MethodHandle" ∧ yX1_does.cls ≠ "java/lang/invoke/VarHandle" ∧ (parseMethodDescriptor yX1_does.desc).map (fun d => d.parameters.length) = some 4 := by decide +kernel
set_option maxHeartbeats 4000000 in
theorem bX1_choose_35 {X : zX} {d : Nat} {E : zM} {K : Option Value → zG → Prop} {KX : String → zG → Prop} (C : zC X (d + 1) E RX1 cX1_choose 8 (some (.object "java/util/List")) "choose") (hQ : zQ X E K KX) (g : zG) (a0 : Nat) (a1 : Nat) (a2 : Nat) (x3 : Int32) (a4 : Nat) (x6 : Int32) (x7 : Int32) (h : ∃ (fs_1 : List Value) (a_2 : Nat), zGo g 1 a0 = some fs_1 ∧ fs_1[3]? = some (.ref a_2) ∧ zIs g 0 a_2 ∧ zCal X d yJ2_size wJ2_size [.ref a_2] g (fun r g_3 => ∃ v_4 : Int32, r = some (.int v_4) ∧ (v_4 ≤ x7 → K (some (.null)) g_3) ∧ (¬ v_4 ≤ x7 → ∃ (fs_5 : List Value) (a_6 : Nat), zGo g_3 1 a0 = some fs_5 ∧ fs_5[3]? = some (.ref a_6) ∧ zIs g_3 0 a_6 ∧ zCal X d yJ2_get wJ2_get [.ref a_6, .int x7] g_3 (fun r g_7 => ∃ r_8 : Option Nat, r = some (va_rf r_8) ∧ ∃ a_9 : Nat, r_8 = some a_9 ∧ zIs g_7 4 a_9 ∧ zIs g_7 0 a4 ∧ zCal X d yJ2_add wJ2_add [.ref a4, .ref a_9] g_7 (fun r g_10 => ∃ v_11 : Int32, r = some (.int v_11) ∧ zbo v_11 ∧ zIs g_10 1 a0 ∧ zCal X d yX1_choose wX1_choose [.ref a0, .ref a1, .ref a2, .int x3, .ref a4, .int (x7 + 1), .int x6] g_10 (fun r g_12 => ∃ r_13 : Option Nat, r = some (va_rf r_13) ∧ (r_13 = none → zIs g_12 0 a4 ∧ zCal X d yJ2_size wJ2_size [.ref a4] g_12 (fun r g_15 => ∃ v_16 : Int32, r = some (.int v_16) ∧ zIs g_15 0 a4 ∧ zCal X d yJ2_remove wJ2_remove [.ref a4, .int (v_16 - 1)] g_15 (fun r g_17 => ∃ r_18 : Option Nat, r = some (va_rf r_18) ∧ GW X E 8 g_17 35 [(0, .ref a0), (1, .ref a1), (2, .ref a2), (3, .int x3), (4, .ref a4), (6, .int x6), (7, .int (x7 + 1))] []) KX) KX) ∧ (∀ a_14 : Nat, r_13 = some a_14 → K (some (.ref a4)) g_12)) KX) KX) KX)) KX) : GW X E 8 g 35 [(0, .ref a0), (1, .ref a1), (2, .ref a2), (3, .int x3), (4, .ref a4), (6, .int x6), (7, .int x7)] [] := by
  intro H locs ls hR hS hl
  refine lv_iload C.x C.b dX1_choose_35 (lv_at hl 6 rfl) ?_
  refine lv_aload_n C.x C.b dX1_choose_37 rfl (lv_at hl 0 rfl) ?_
  obtain ⟨fs_1, a_2, q1, q2, h⟩ := h
  refine z_get C hR q1 rfl (ci := 1) rfl in_X1 3 (by decide) q248 (fun _ h => h) q2 dX1_choose_38 ?_
  refine z_callF C hR hS hl (n := 0) (C1 := RJ2) (T := TJ2) (N := 3) (ci := 0) (y := yJ2_size) (bytes := cJ2_size) (maxL := 1) (rt := (some .int)) (As := []) (rest := [.int x7]) (x := ⟨"java/util/List", "size", "()I"⟩) h.1 rfl (lw_F q291 q294 q296 q76 q298) ⟨C.ok.2.1 _ q293, C.ok.2.1 _ q292, C.ok.2.1 _ q297, C.ok.2.1 _ q295, C.ok.2.1 _ q174⟩ hdF_J2_size (by decide) rfl rfl (Nat.le_of_ble_eq_true rfl) dX1_choose_41 h.2 (fun r g_3 hk_ => ?_) (fun x g1 h => z_out C hQ h)
  clear h; obtain ⟨v_4, rfl, h⟩ := hk_
  show GW X E 8 g_3 46 [(0, .ref a0), (1, .ref a1), (2, .ref a2), (3, .int x3), (4, .ref a4), (6, .int x6), (7, .int x7)] [.int v_4, .int x7]
  intro H locs ls hR hS hl
  obtain ⟨h1, h2⟩ := h
  refine lv_icmp_ge (tgt := 115) C.x C.b dX1_choose_46 (by decide) (fun c => ?_) (fun c => ?_)
  · have h := h1 c; clear h1 h2
    refine lv_null C.x C.b dX1_choose_115 ?_
    exact z_aret C hQ (Or.inl ⟨_, rfl⟩) (Or.inl rfl) dX1_choose_116 h H locs ls hR hS hl
  · have h := h2 c; clear h1 h2
    refine lv_aload C.x C.b dX1_choose_49 (lv_at hl 4 rfl) ?_
    refine lv_aload_n C.x C.b dX1_choose_51 rfl (lv_at hl 0 rfl) ?_
    obtain ⟨fs_5, a_6, q1, q2, h⟩ := h
    refine z_get C hR q1 rfl (ci := 1) rfl in_X1 3 (by decide) q248 (fun _ h => h) q2 dX1_choose_52 ?_
    refine lv_iload C.x C.b dX1_choose_55 (lv_at hl 6 rfl) ?_
    refine z_callF C hR hS hl (n := 1) (C1 := RJ2) (T := TJ2) (N := 3) (ci := 0) (y := yJ2_get) (bytes := cJ2_get) (maxL := 2) (rt := (some (.object "java/lang/Object"))) (As := [.int x7]) (rest := [.ref a4]) (x := ⟨"java/util/List", "get", "(I)Ljava/lang/Object;"⟩) h.1 rfl (lw_F q378 q381 q383 q76 q385) ⟨C.ok.2.1 _ q380, C.ok.2.1 _ q379, C.ok.2.1 _ q384, C.ok.2.1 _ q382, C.ok.2.1 _ q174⟩ hdF_J2_get (by decide) rfl rfl (Nat.le_of_ble_eq_true rfl) dX1_choose_57 h.2 (fun r g_7 hk_ => ?_) (fun x g1 h => z_out C hQ h)
    clear h; obtain ⟨r_8, rfl, h⟩ := hk_
    show GW X E 8 g_7 62 [(0, .ref a0), (1, .ref a1), (2, .ref a2), (3, .int x3), (4, .ref a4), (6, .int x6), (7, .int x7)] [va_rf r_8, .ref a4]
    intro H locs ls hR hS hl
    obtain ⟨a_9, e_, h⟩ := h; subst e_
    have hl : lv_has ls 8 [(0, .ref a0), (1, .ref a1), (2, .ref a2), (3, .int x3), (4, .ref a4), (6, .int x6), (7, .int x7)] := by assumption
    show zV X E H locs (F0 (zm E) 62 ls [.ref a_9, .ref a4])
    refine z_castS C hR (ci := 4) (C1 := RX4) (T := TX4) (N := 7) h.1 rfl q455 dX1_choose_62 ?_
    have h := h.2
    refine z_callF C hR hS hl (n := 1) (C1 := RJ2) (T := TJ2) (N := 3) (ci := 0) (y := yJ2_add) (bytes := cJ2_add) (maxL := 2) (rt := (some .boolean)) (As := [.ref a_9]) (rest := []) (x := ⟨"java/util/List", "add", "(Ljava/lang/Object;)Z"⟩) h.1 rfl (lw_F q171 q175 q177 q76 q179) ⟨C.ok.2.1 _ q173, C.ok.2.1 _ q172, C.ok.2.1 _ q178, C.ok.2.1 _ q176, C.ok.2.1 _ q174⟩ hdF_J2_add (by decide) rfl rfl (Nat.le_of_ble_eq_true rfl) dX1_choose_65 h.2 (fun r g_10 hk_ => ?_) (fun x g1 h => z_out C hQ h)
    clear h; obtain ⟨v_11, rfl, zb_, h⟩ := hk_
    show GW X E 8 g_10 70 [(0, .ref a0), (1, .ref a1), (2, .ref a2), (3, .int x3), (4, .ref a4), (6, .int x6), (7, .int x7)] [.int v_11]
    intro H locs ls hR hS hl
    refine lv_pop C.x C.b dX1_choose_70 rfl ?_
    refine lv_aload_n C.x C.b dX1_choose_71 rfl (lv_at hl 0 rfl) ?_
    refine lv_aload_n C.x C.b dX1_choose_72 rfl (lv_at hl 1 rfl) ?_
    refine lv_aload_n C.x C.b dX1_choose_73 rfl (lv_at hl 2 rfl) ?_
    refine lv_iload_n C.x C.b dX1_choose_74 rfl (lv_at hl 3 rfl) ?_
    refine lv_aload C.x C.b dX1_choose_75 (lv_at hl 4 rfl) ?_
    refine lv_iload C.x C.b dX1_choose_77 (lv_at hl 6 rfl) ?_
    refine lv_iconst (v := 1) C.x C.b dX1_choose_79 (by decide) ?_
    refine lv_iadd C.x C.b dX1_choose_80 ?_
    refine lv_iload C.x C.b dX1_choose_81 (lv_at hl 5 rfl) ?_
    refine z_callV C hR hS hl (n := 6) (C1 := RX1) (T := TX1) (N := 12) (ci := 1) (y := yX1_choose) (bytes := cX1_choose) (maxL := 8) (rt := (some (.object "java/util/List"))) (As := [.ref a1, .ref a2, .int x3, .ref a4, .int (x7 + 1), .int x6]) (rest := []) h.1 rfl (lw_V q1600 q1602 qs26 q73 q1603) hdV_X1_choose (by decide) rfl rfl (Nat.le_of_ble_eq_true rfl) dX1_choose_83 h.2 (fun r g_12 hk_ => ?_) (fun x g1 h => z_out C hQ h)
    clear h; obtain ⟨r_13, rfl, h⟩ := hk_
    show GW X E 8 g_12 86 [(0, .ref a0), (1, .ref a1), (2, .ref a2), (3, .int x3), (4, .ref a4), (6, .int x6), (7, .int x7)] [va_rf r_13]
    intro H locs ls hR hS hl
    obtain ⟨h1, h2⟩ := h
    cases r_13 with
    | none =>
      have h := h1 rfl; clear h1 h2
      have hl : lv_has ls 8 [(0, .ref a0), (1, .ref a1), (2, .ref a2), (3, .int x3), (4, .ref a4), (6, .int x6), (7, .int x7)] := by assumption
      refine lv_ifnullN (tgt := 92) C.x C.b dX1_choose_86 (by decide) ?_
      refine lv_aload C.x C.b dX1_choose_92 (lv_at hl 4 rfl) ?_
      refine lv_aload C.x C.b dX1_choose_94 (lv_at hl 4 rfl) ?_
      refine z_callF C hR hS hl (n := 0) (C1 := RJ2) (T := TJ2) (N := 3) (ci := 0) (y := yJ2_size) (bytes := cJ2_size) (maxL := 1) (rt := (some .int)) (As := []) (rest := [.ref a4]) (x := ⟨"java/util/List", "size", "()I"⟩) h.1 rfl (lw_F q291 q294 q296 q76 q298) ⟨C.ok.2.1 _ q293, C.ok.2.1 _ q292, C.ok.2.1 _ q297, C.ok.2.1 _ q295, C.ok.2.1 _ q174⟩ hdF_J2_size (by decide) rfl rfl (Nat.le_of_ble_eq_true rfl) dX1_choose_96 h.2 (fun r g_15 hk_ => ?_) (fun x g1 h => z_out C hQ h)
      clear h; obtain ⟨v_16, rfl, h⟩ := hk_
      show GW X E 8 g_15 101 [(0, .ref a0), (1, .ref a1), (2, .ref a2), (3, .int x3), (4, .ref a4), (6, .int x6), (7, .int x7)] [.int v_16, .ref a4]
      intro H locs ls hR hS hl
      refine lv_iconst (v := 1) C.x C.b dX1_choose_101 (by decide) ?_
      refine lv_isub C.x C.b dX1_choose_102 ?_
      refine z_callF C hR hS hl (n := 1) (C1 := RJ2) (T := TJ2) (N := 3) (ci := 0) (y := yJ2_remove) (bytes := cJ2_remove) (maxL := 4) (rt := (some (.object "java/lang/Object"))) (As := [.int (v_16 - 1)]) (rest := []) (x := ⟨"java/util/List", "remove", "(I)Ljava/lang/Object;"⟩) h.1 rfl (lw_F q1305 q603 q605 q76 q607) ⟨C.ok.2.1 _ q602, C.ok.2.1 _ q601, C.ok.2.1 _ q606, C.ok.2.1 _ q604, C.ok.2.1 _ q174⟩ hdF_J2_remove (by decide) rfl rfl (Nat.le_of_ble_eq_true rfl) dX1_choose_103 h.2 (fun r g_17 hk_ => ?_) (fun x g1 h => z_out C hQ h)
      clear h; obtain ⟨r_18, rfl, h⟩ := hk_
      show GW X E 8 g_17 108 [(0, .ref a0), (1, .ref a1), (2, .ref a2), (3, .int x3), (4, .ref a4), (6, .int x6), (7, .int x7)] [va_rf r_18]
      intro H locs ls hR hS hl
      refine lv_pop C.x C.b dX1_choose_108 (zrf_cat _) ?_
      refine lv_iinc (v := x7 + 1) (lv' := [(7, .int (x7 + 1)), (0, .ref a0), (1, .ref a1), (2, .ref a2), (3, .int x3), (4, .ref a4), (6, .int x6)]) C.x C.b dX1_choose_109 hl (k := 6) rfl rfl (by decide) rfl (fun ls hl => ?_)
      refine lv_goto (tgt := 35) C.x C.b dX1_choose_112 (by decide) ?_
      exact h H locs ls hR hS (lv_sub hl [1, 2, 3, 4, 5, 6, 0] rfl)
    | some a_14 =>
      have h := h2 _ rfl; clear h1 h2
      have hl : lv_has ls 8 [(0, .ref a0), (1, .ref a1), (2, .ref a2), (3, .int x3), (4, .ref a4), (6, .int x6), (7, .int x7)] := by assumption
      refine lv_ifnull C.x C.b dX1_choose_86 ?_
      refine lv_aload C.x C.b dX1_choose_89 (lv_at hl 4 rfl) ?_
      exact z_aret C hQ (Or.inl ⟨_, rfl⟩) (Or.inr ⟨_, rfl⟩) dX1_choose_91 h H locs ls hR hS hl
set_option maxHeartbeats 4000000 in
theorem mX1_choose {X : zX} {d : Nat} {g : zG} {K : Option Value → zG → Prop} {KX : String → zG → Prop} (hok : zOk X) (a0 : Nat) (a1 : Nat) (a2 : Nat) (x3 : Int32) (a4 : Nat) (x5 : Int32) (x6 : Int32) (h : ∀ E : zM, zC X (d + 1) E RX1 cX1_choose 8 (some (.object "java/util/List")) "choose" → zQ X E K KX → zIs g 0 a4 ∧ zCal X d yJ2_size wJ2_size [.ref a4] g (fun r g_1 => ∃ v_2 : Int32, r = some (.int v_2) ∧ (¬ v_2 = x6 → GW X E 8 g_1 35 [(0, .ref a0), (1, .ref a1), (2, .ref a2), (3, .int x3), (4, .ref a4), (6, .int x6), (7, .int x5)] []) ∧ (v_2 = x6 → zIs g_1 1 a0 ∧ zCal X d yX1_does wX1_does [.ref a0, .ref a1, .ref a2, .int x3, .ref a4] g_1 (fun r g_3 => ∃ v_4 : Int32, r = some (.int v_4) ∧ zbo v_4 ∧ (v_4 = 0 → K (some (.null)) g_3) ∧ (¬ v_4 = 0 → K (some (.ref a4)) g_3)) KX)) KX) : zCal X (d + 1) yX1_choose wX1_choose [.ref a0, .ref a1, .ref a2, .int x3, .ref a4, .int x5, .int x6] g K KX := by
  refine z_enter hok pn_X1 (Nat.le_of_ble_eq_true rfl) (fun E C hQ => ?_)
  have C : zC X (d + 1) E RX1 cX1_choose 8 (some (.object "java/util/List")) "choose" := C
  have h := h E C hQ
  show GW X E 8 g 0 [(0, .ref a0), (1, .ref a1), (2, .ref a2), (3, .int x3), (4, .ref a4), (5, .int x5), (6, .int x6)] []
  intro H locs ls hR hS hl
  refine lv_aload C.x C.b dX1_choose_0 (lv_at hl 4 rfl) ?_
  refine z_callF C hR hS hl (n := 0) (C1 := RJ2) (T := TJ2) (N := 3) (ci := 0) (y := yJ2_size) (bytes := cJ2_size) (maxL := 1) (rt := (some .int)) (As := []) (rest := []) (x := ⟨"java/util/List", "size", "()I"⟩) h.1 rfl (lw_F q291 q294 q296 q76 q298) ⟨C.ok.2.1 _ q293, C.ok.2.1 _ q292, C.ok.2.1 _ q297, C.ok.2.1 _ q295, C.ok.2.1 _ q174⟩ hdF_J2_size (by decide) rfl rfl (Nat.le_of_ble_eq_true rfl) dX1_choose_2 h.2 (fun r g_1 hk_ => ?_) (fun x g1 h => z_out C hQ h)
  clear h; obtain ⟨v_2, rfl, h⟩ := hk_
  show GW X E 8 g_1 7 [(0, .ref a0), (1, .ref a1), (2, .ref a2), (3, .int x3), (4, .ref a4), (5, .int x5), (6, .int x6)] [.int v_2]
  intro H locs ls hR hS hl
  refine lv_iload C.x C.b dX1_choose_7 (lv_at hl 6 rfl) ?_
  obtain ⟨h1, h2⟩ := h
  refine lv_icmp_ne (tgt := 31) C.x C.b dX1_choose_9 (by decide) (fun c => ?_) (fun c => ?_)
  · have h := h1 c; clear h1 h2
    refine lv_iload C.x C.b dX1_choose_31 (lv_at hl 5 rfl) ?_
    refine lv_istore (lv' := [(7, .int x5), (0, .ref a0), (1, .ref a1), (2, .ref a2), (3, .int x3), (4, .ref a4), (5, .int x5), (6, .int x6)]) C.x C.b dX1_choose_33 hl (by decide) rfl (fun ls hl => ?_)
    exact h H locs ls hR hS (lv_sub hl [1, 2, 3, 4, 5, 7, 0] rfl)
  · have h := h2 c; clear h1 h2
    refine lv_aload_n C.x C.b dX1_choose_12 rfl (lv_at hl 0 rfl) ?_
    refine lv_aload_n C.x C.b dX1_choose_13 rfl (lv_at hl 1 rfl) ?_
    refine lv_aload_n C.x C.b dX1_choose_14 rfl (lv_at hl 2 rfl) ?_
    refine lv_iload_n C.x C.b dX1_choose_15 rfl (lv_at hl 3 rfl) ?_
    refine lv_aload C.x C.b dX1_choose_16 (lv_at hl 4 rfl) ?_
    refine z_callV C hR hS hl (n := 4) (C1 := RX1) (T := TX1) (N := 12) (ci := 1) (y := yX1_does) (bytes := cX1_does) (maxL := 6) (rt := (some .boolean)) (As := [.ref a1, .ref a2, .int x3, .ref a4]) (rest := []) h.1 rfl (lw_V q1604 q1606 qs27 q73 q1607) hdV_X1_does (by decide) rfl rfl (Nat.le_of_ble_eq_true rfl) dX1_choose_18 h.2 (fun r g_3 hk_ => ?_) (fun x g1 h => z_out C hQ h)
    clear h; obtain ⟨v_4, rfl, zb_, h⟩ := hk_
    show GW X E 8 g_3 21 [(0, .ref a0), (1, .ref a1), (2, .ref a2), (3, .int x3), (4, .ref a4), (5, .int x5), (6, .int x6)] [.int v_4]
    intro H locs ls hR hS hl
    obtain ⟨h1, h2⟩ := h
    refine lv_if_eq (tgt := 29) C.x C.b dX1_choose_21 (by decide) (fun c => ?_) (fun c => ?_)
    · have h := h1 c; clear h1 h2
      refine lv_null C.x C.b dX1_choose_29 ?_
      exact z_aret C hQ (Or.inl ⟨_, rfl⟩) (Or.inl rfl) dX1_choose_30 h H locs ls hR hS hl
    · have h := h2 c; clear h1 h2
      refine lv_aload C.x C.b dX1_choose_24 (lv_at hl 4 rfl) ?_
      refine lv_goto (tgt := 30) C.x C.b dX1_choose_26 (by decide) ?_
      exact z_aret C hQ (Or.inl ⟨_, rfl⟩) (Or.inr ⟨_, rfl⟩) dX1_choose_30 h H locs ls hR hS hl
set_option maxHeartbeats 4000000 in
theorem bX1_setFor_81 {X : zX} {d : Nat} {E : zM} {K : Option Value → zG → Prop} {KX : String → zG → Prop} (C : zC X (d + 1) E RX1 cX1_setFor 9 (some (.object "java/util/List")) "setFor") (hQ : zQ X E K KX) (g : zG) (a0 : Nat) (x3 : Int32) (a4 : Nat) (a5 : Nat) (x6 : Int32) (a7 : Nat) (x8 : Int32) (h : (x3 = 0 → (3 < x8 → K (some (.ref a7)) g) ∧ (¬ 3 < x8 → (x6 = 0 → K (some (.ref a7)) g) ∧ (¬ x6 = 0 → zIs g 1 a0 ∧ zCal X d yX1_choose wX1_choose [.ref a0, .ref a4, .ref a5, .int x3, .ref a7, .int 0, .int x8] g (fun r g_1 => ∃ r_2 : Option Nat, r = some (va_rf r_2) ∧ (r_2 = none → GW X E 9 g_1 81 [(0, .ref a0), (3, .int x3), (4, .ref a4), (5, .ref a5), (6, .int x6), (7, .ref a7), (8, .int (x8 + 1))] []) ∧ (∀ a_3 : Nat, r_2 = some a_3 → K (some (.ref a7)) g_1)) KX))) ∧ (¬ x3 = 0 → (4 < x8 → K (some (.ref a7)) g) ∧ (¬ 4 < x8 → (x6 = 0 → K (some (.ref a7)) g) ∧ (¬ x6 = 0 → zIs g 1 a0 ∧ zCal X d yX1_choose wX1_choose [.ref a0, .ref a4, .ref a5, .int x3, .ref a7, .int 0, .int x8] g (fun r g_4 => ∃ r_5 : Option Nat, r = some (va_rf r_5) ∧ (r_5 = none → GW X E 9 g_4 81 [(0, .ref a0), (3, .int x3), (4, .ref a4), (5, .ref a5), (6, .int x6), (7, .ref a7), (8, .int (x8 + 1))] []) ∧ (∀ a_6 : Nat, r_5 = some a_6 → K (some (.ref a7)) g_4)) KX)))) : GW X E 9 g 81 [(0, .ref a0), (3, .int x3), (4, .ref a4), (5, .ref a5), (6, .int x6), (7, .ref a7), (8, .int x8)] [] := by
  intro H locs ls hR hS hl
  refine lv_iload C.x C.b dX1_setFor_81 (lv_at hl 6 rfl) ?_
  refine lv_iload_n C.x C.b dX1_setFor_83 rfl (lv_at hl 1 rfl) ?_
  obtain ⟨h1, h2⟩ := h
  refine lv_if_eq (tgt := 91) C.x C.b dX1_setFor_84 (by decide) (fun c => ?_) (fun c => ?_)
  · have h := h1 c; clear h1 h2
    refine lv_iconst (v := 3) C.x C.b dX1_setFor_91 (by decide) ?_
    obtain ⟨h1, h2⟩ := h
    refine lv_icmp_gt (tgt := 126) C.x C.b dX1_setFor_92 (by decide) (fun c => ?_) (fun c => ?_)
    · have h := h1 c; clear h1 h2
      refine lv_aload C.x C.b dX1_setFor_126 (lv_at hl 5 rfl) ?_
      exact z_aret C hQ (Or.inl ⟨_, rfl⟩) (Or.inr ⟨_, rfl⟩) dX1_setFor_128 h H locs ls hR hS hl
    · have h := h2 c; clear h1 h2
      refine lv_iload C.x C.b dX1_setFor_95 (lv_at hl 4 rfl) ?_
      obtain ⟨h1, h2⟩ := h
      refine lv_if_eq (tgt := 126) C.x C.b dX1_setFor_97 (by decide) (fun c => ?_) (fun c => ?_)
      · have h := h1 c; clear h1 h2
        refine lv_aload C.x C.b dX1_setFor_126 (lv_at hl 5 rfl) ?_
        exact z_aret C hQ (Or.inl ⟨_, rfl⟩) (Or.inr ⟨_, rfl⟩) dX1_setFor_128 h H locs ls hR hS hl
      · have h := h2 c; clear h1 h2
        refine lv_aload_n C.x C.b dX1_setFor_100 rfl (lv_at hl 0 rfl) ?_
        refine lv_aload C.x C.b dX1_setFor_101 (lv_at hl 2 rfl) ?_
        refine lv_aload C.x C.b dX1_setFor_103 (lv_at hl 3 rfl) ?_
        refine lv_iload_n C.x C.b dX1_setFor_105 rfl (lv_at hl 1 rfl) ?_
        refine lv_aload C.x C.b dX1_setFor_106 (lv_at hl 5 rfl) ?_
        refine lv_iconst (v := 0) C.x C.b dX1_setFor_108 (by decide) ?_
        refine lv_iload C.x C.b dX1_setFor_109 (lv_at hl 6 rfl) ?_
        refine z_callV C hR hS hl (n := 6) (C1 := RX1) (T := TX1) (N := 12) (ci := 1) (y := yX1_choose) (bytes := cX1_choose) (maxL := 8) (rt := (some (.object "java/util/List"))) (As := [.ref a4, .ref a5, .int x3, .ref a7, .int 0, .int x8]) (rest := []) h.1 rfl (lw_V q1600 q1602 qs26 q73 q1603) hdV_X1_choose (by decide) rfl rfl (Nat.le_of_ble_eq_true rfl) dX1_setFor_111 h.2 (fun r g_1 hk_ => ?_) (fun x g1 h => z_out C hQ h)
        clear h; obtain ⟨r_2, rfl, h⟩ := hk_
        show GW X E 9 g_1 114 [(0, .ref a0), (3, .int x3), (4, .ref a4), (5, .ref a5), (6, .int x6), (7, .ref a7), (8, .int x8)] [va_rf r_2]
        intro H locs ls hR hS hl
        obtain ⟨h1, h2⟩ := h
        cases r_2 with
        | none =>
          have h := h1 rfl; clear h1 h2
          have hl : lv_has ls 9 [(0, .ref a0), (3, .int x3), (4, .ref a4), (5, .ref a5), (6, .int x6), (7, .ref a7), (8, .int x8)] := by assumption
          refine lv_ifnullN (tgt := 120) C.x C.b dX1_setFor_114 (by decide) ?_
          refine lv_iinc (v := x8 + 1) (lv' := [(8, .int (x8 + 1)), (0, .ref a0), (3, .int x3), (4, .ref a4), (5, .ref a5), (6, .int x6), (7, .ref a7)]) C.x C.b dX1_setFor_120 hl (k := 6) rfl rfl (by decide) rfl (fun ls hl => ?_)
          refine lv_goto (tgt := 81) C.x C.b dX1_setFor_123 (by decide) ?_
          exact h H locs ls hR hS (lv_sub hl [1, 2, 3, 4, 5, 6, 0] rfl)
        | some a_3 =>
          have h := h2 _ rfl; clear h1 h2
          have hl : lv_has ls 9 [(0, .ref a0), (3, .int x3), (4, .ref a4), (5, .ref a5), (6, .int x6), (7, .ref a7), (8, .int x8)] := by assumption
          refine lv_ifnull C.x C.b dX1_setFor_114 ?_
          refine lv_aload C.x C.b dX1_setFor_117 (lv_at hl 5 rfl) ?_
          exact z_aret C hQ (Or.inl ⟨_, rfl⟩) (Or.inr ⟨_, rfl⟩) dX1_setFor_119 h H locs ls hR hS hl
  · have h := h2 c; clear h1 h2
    refine lv_iconst (v := 4) C.x C.b dX1_setFor_87 (by decide) ?_
    refine lv_goto (tgt := 92) C.x C.b dX1_setFor_88 (by decide) ?_
    obtain ⟨h1, h2⟩ := h
    refine lv_icmp_gt (tgt := 126) C.x C.b dX1_setFor_92 (by decide) (fun c => ?_) (fun c => ?_)
    · have h := h1 c; clear h1 h2
      refine lv_aload C.x C.b dX1_setFor_126 (lv_at hl 5 rfl) ?_
      exact z_aret C hQ (Or.inl ⟨_, rfl⟩) (Or.inr ⟨_, rfl⟩) dX1_setFor_128 h H locs ls hR hS hl
    · have h := h2 c; clear h1 h2
      refine lv_iload C.x C.b dX1_setFor_95 (lv_at hl 4 rfl) ?_
      obtain ⟨h1, h2⟩ := h
      refine lv_if_eq (tgt := 126) C.x C.b dX1_setFor_97 (by decide) (fun c => ?_) (fun c => ?_)
      · have h := h1 c; clear h1 h2
        refine lv_aload C.x C.b dX1_setFor_126 (lv_at hl 5 rfl) ?_
        exact z_aret C hQ (Or.inl ⟨_, rfl⟩) (Or.inr ⟨_, rfl⟩) dX1_setFor_128 h H locs ls hR hS hl
      · have h := h2 c; clear h1 h2
        refine lv_aload_n C.x C.b dX1_setFor_100 rfl (lv_at hl 0 rfl) ?_
        refine lv_aload C.x C.b dX1_setFor_101 (lv_at hl 2 rfl) ?_
        refine lv_aload C.x C.b dX1_setFor_103 (lv_at hl 3 rfl) ?_
        refine lv_iload_n C.x C.b dX1_setFor_105 rfl (lv_at hl 1 rfl) ?_
        refine lv_aload C.x C.b dX1_setFor_106 (lv_at hl 5 rfl) ?_
        refine lv_iconst (v := 0) C.x C.b dX1_setFor_108 (by decide) ?_
        refine lv_iload C.x C.b dX1_setFor_109 (lv_at hl 6 rfl) ?_
        refine z_callV C hR hS hl (n := 6) (C1 := RX1) (T := TX1) (N := 12) (ci := 1) (y := yX1_choose) (bytes := cX1_choose) (maxL := 8) (rt := (some (.object "java/util/List"))) (As := [.ref a4, .ref a5, .int x3, .ref a7, .int 0, .int x8]) (rest := []) h.1 rfl (lw_V q1600 q1602 qs26 q73 q1603) hdV_X1_choose (by decide) rfl rfl (Nat.le_of_ble_eq_true rfl) dX1_setFor_111 h.2 (fun r g_4 hk_ => ?_) (fun x g1 h => z_out C hQ h)
        clear h; obtain ⟨r_5, rfl, h⟩ := hk_
        show GW X E 9 g_4 114 [(0, .ref a0), (3, .int x3), (4, .ref a4), (5, .ref a5), (6, .int x6), (7, .ref a7), (8, .int x8)] [va_rf r_5]
        intro H locs ls hR hS hl
        obtain ⟨h1, h2⟩ := h
        cases r_5 with
        | none =>
          have h := h1 rfl; clear h1 h2
          have hl : lv_has ls 9 [(0, .ref a0), (3, .int x3), (4, .ref a4), (5, .ref a5), (6, .int x6), (7, .ref a7), (8, .int x8)] := by assumption
          refine lv_ifnullN (tgt := 120) C.x C.b dX1_setFor_114 (by decide) ?_
          refine lv_iinc (v := x8 + 1) (lv' := [(8, .int (x8 + 1)), (0, .ref a0), (3, .int x3), (4, .ref a4), (5, .ref a5), (6, .int x6), (7, .ref a7)]) C.x C.b dX1_setFor_120 hl (k := 6) rfl rfl (by decide) rfl (fun ls hl => ?_)
          refine lv_goto (tgt := 81) C.x C.b dX1_setFor_123 (by decide) ?_
          exact h H locs ls hR hS (lv_sub hl [1, 2, 3, 4, 5, 6, 0] rfl)
        | some a_6 =>
          have h := h2 _ rfl; clear h1 h2
          have hl : lv_has ls 9 [(0, .ref a0), (3, .int x3), (4, .ref a4), (5, .ref a5), (6, .int x6), (7, .ref a7), (8, .int x8)] := by assumption
          refine lv_ifnull C.x C.b dX1_setFor_114 ?_
          refine lv_aload C.x C.b dX1_setFor_117 (lv_at hl 5 rfl) ?_
          exact z_aret C hQ (Or.inl ⟨_, rfl⟩) (Or.inr ⟨_, rfl⟩) dX1_setFor_119 h H locs ls hR hS hl
set_option maxHeartbeats 4000000 in
theorem mX1_setFor {X : zX} {d : Nat} {g : zG} {K : Option Value → zG → Prop} {KX : String → zG → Prop} (hok : zOk X) (a0 : Nat) (x1 : Int32) (x2 : Int32) (x3 : Int32) (h : ∀ E : zM, zC X (d + 1) E RX1 cX1_setFor 9 (some (.object "java/util/List")) "setFor" → zQ X E K KX → zIs g 1 a0 ∧ zCal X d yX1_monitor wX1_monitor [.ref a0, .int x1] g (fun r g_1 => ∃ a_3 : Nat, r = some (.ref a_3) ∧ zIs g_1 1 a0 ∧ zCal X d yX1_its wX1_its [.ref a0, .int x2] g_1 (fun r g_4 => ∃ a_6 : Nat, r = some (.ref a_6) ∧ ∃ (fs_7 : List Value) (a_8 : Nat), zGo g_4 1 a0 = some fs_7 ∧ fs_7[3]? = some (.ref a_8) ∧ zIs g_4 0 a_8 ∧ zCal X d yJ2_size wJ2_size [.ref a_8] g_4 (fun r g_9 => ∃ v_10 : Int32, r = some (.int v_10) ∧ (16 < v_10 → zCal X d yX1_allow wX1_allow [.int 0] g_9 (fun r g_11 => r = none ∧ False) KX) ∧ (¬ 16 < v_10 → zCal X d yX1_allow wX1_allow [.int 1] g_9 (fun r g_12 => r = none ∧ ∃ (fs_13 : List Value) (a_14 : Nat), zGo g_12 8 a_3 = some fs_13 ∧ fs_13[5]? = some (.ref a_14) ∧ zIs g_12 0 a_14 ∧ zCal X d yJ2_get wJ2_get [.ref a_14, .int x2] g_12 (fun r g_15 => ∃ r_16 : Option Nat, r = some (va_rf r_16) ∧ ∃ a_17 : Nat, r_16 = some a_17 ∧ zIs g_15 6 a_17 ∧ ∃ (fs_18 : List Value) (a_19 : Nat), zGo g_15 6 a_17 = some fs_18 ∧ fs_18[0]? = some (.ref a_19) ∧ (∃ k : Nat, k < 256 ∧ a_19 = zN X k) ∧ ∃ k_20 : Nat, k_20 < 256 ∧ a_19 = zN X k_20 ∧ ∀ v_21 : Int32, v_21 = vb_c k_20 → (¬ v_21 = 0 → ∃ k_24 : Nat, zkc k_24 = 0 ∧ zGz g_15 + 1 + 3 ≤ zz X ∧ ∀ a_22 : Nat, zFr g_15 a_22 → ∀ g_23 : zG, g_23 = zSz (zSo g_15 k_24 a_22 [.int 0, .null, .int 0]) (zGz g_15 + 1 + 3) → zCal X d yJ2_init wJ2_init [.ref a_22] g_23 (fun r g_25 => r = none ∧ GW X E 9 g_25 81 [(0, .ref a0), (3, .int x3), (4, .ref a_3), (5, .ref a_6), (6, .int 0), (7, .ref a_22), (8, .int 1)] []) KX) ∧ (v_21 = 0 → ∃ k_28 : Nat, zkc k_28 = 0 ∧ zGz g_15 + 1 + 3 ≤ zz X ∧ ∀ a_26 : Nat, zFr g_15 a_26 → ∀ g_27 : zG, g_27 = zSz (zSo g_15 k_28 a_26 [.int 0, .null, .int 0]) (zGz g_15 + 1 + 3) → zCal X d yJ2_init wJ2_init [.ref a_26] g_27 (fun r g_29 => r = none ∧ GW X E 9 g_29 81 [(0, .ref a0), (3, .int x3), (4, .ref a_3), (5, .ref a_6), (6, .int 1), (7, .ref a_26), (8, .int 1)] []) KX)) KX) KX)) KX) KX) KX) : zCal X (d + 1) yX1_setFor wX1_setFor [.ref a0, .int x1, .int x2, .int x3] g K KX := by
  refine z_enter hok pn_X1 (Nat.le_of_ble_eq_true rfl) (fun E C hQ => ?_)
  have C : zC X (d + 1) E RX1 cX1_setFor 9 (some (.object "java/util/List")) "setFor" := C
  have h := h E C hQ
  show GW X E 9 g 0 [(0, .ref a0), (1, .int x1), (2, .int x2), (3, .int x3)] []
  intro H locs ls hR hS hl
  refine lv_aload_n C.x C.b dX1_setFor_0 rfl (lv_at hl 0 rfl) ?_
  refine lv_iload_n C.x C.b dX1_setFor_1 rfl (lv_at hl 1 rfl) ?_
  refine z_callV C hR hS hl (n := 1) (C1 := RX1) (T := TX1) (N := 12) (ci := 1) (y := yX1_monitor) (bytes := cX1_monitor) (maxL := 2) (rt := (some (.object "LogGrammar$Monitor"))) (As := [.int x1]) (rest := []) h.1 rfl (lw_V q1522 q1524 qs24 q73 q1525) hdV_X1_monitor (by decide) rfl rfl (Nat.le_of_ble_eq_true rfl) dX1_setFor_2 h.2 (fun r g_1 hk_ => ?_) (fun x g1 h => z_out C hQ h)
  clear h; obtain ⟨a_3, rfl, h⟩ := hk_
  show GW X E 9 g_1 5 [(0, .ref a0), (1, .int x1), (2, .int x2), (3, .int x3)] [.ref a_3]
  intro H locs ls hR hS hl
  refine lv_astore (lv' := [(4, .ref a_3), (0, .ref a0), (1, .int x1), (2, .int x2), (3, .int x3)]) C.x C.b dX1_setFor_5 hl (by decide) rfl (fun ls hl => ?_)
  refine lv_aload_n C.x C.b dX1_setFor_7 rfl (lv_at hl 1 rfl) ?_
  refine lv_iload_n C.x C.b dX1_setFor_8 rfl (lv_at hl 3 rfl) ?_
  refine z_callV C hR hS hl (n := 1) (C1 := RX1) (T := TX1) (N := 12) (ci := 1) (y := yX1_its) (bytes := cX1_its) (maxL := 2) (rt := (some (.object "LogGrammar$Event"))) (As := [.int x2]) (rest := []) h.1 rfl (lw_V q1478 q1480 qs23 q73 q1481) hdV_X1_its (by decide) rfl rfl (Nat.le_of_ble_eq_true rfl) dX1_setFor_9 h.2 (fun r g_4 hk_ => ?_) (fun x g1 h => z_out C hQ h)
  clear h; obtain ⟨a_6, rfl, h⟩ := hk_
  show GW X E 9 g_4 12 [(4, .ref a_3), (0, .ref a0), (1, .int x1), (2, .int x2), (3, .int x3)] [.ref a_6]
  intro H locs ls hR hS hl
  refine lv_astore (lv' := [(5, .ref a_6), (4, .ref a_3), (0, .ref a0), (1, .int x1), (2, .int x2), (3, .int x3)]) C.x C.b dX1_setFor_12 hl (by decide) rfl (fun ls hl => ?_)
  refine lv_aload_n C.x C.b dX1_setFor_14 rfl (lv_at hl 2 rfl) ?_
  obtain ⟨fs_7, a_8, q1, q2, h⟩ := h
  refine z_get C hR q1 rfl (ci := 1) rfl in_X1 3 (by decide) q248 (fun _ h => h) q2 dX1_setFor_15 ?_
  refine z_callF C hR hS hl (n := 0) (C1 := RJ2) (T := TJ2) (N := 3) (ci := 0) (y := yJ2_size) (bytes := cJ2_size) (maxL := 1) (rt := (some .int)) (As := []) (rest := []) (x := ⟨"java/util/List", "size", "()I"⟩) h.1 rfl (lw_F q291 q294 q296 q76 q298) ⟨C.ok.2.1 _ q293, C.ok.2.1 _ q292, C.ok.2.1 _ q297, C.ok.2.1 _ q295, C.ok.2.1 _ q174⟩ hdF_J2_size (by decide) rfl rfl (Nat.le_of_ble_eq_true rfl) dX1_setFor_18 h.2 (fun r g_9 hk_ => ?_) (fun x g1 h => z_out C hQ h)
  clear h; obtain ⟨v_10, rfl, h⟩ := hk_
  show GW X E 9 g_9 23 [(5, .ref a_6), (4, .ref a_3), (0, .ref a0), (1, .int x1), (2, .int x2), (3, .int x3)] [.int v_10]
  intro H locs ls hR hS hl
  refine lv_bipush (v := 16) C.x C.b dX1_setFor_23 (by decide) ?_
  obtain ⟨h1, h2⟩ := h
  refine lv_icmp_gt (tgt := 32) C.x C.b dX1_setFor_25 (by decide) (fun c => ?_) (fun c => ?_)
  · have h := h1 c; clear h1 h2
    refine lv_iconst (v := 0) C.x C.b dX1_setFor_32 (by decide) ?_
    refine z_callS C hR hS hl (n := 1) (y := yX1_allow) (bytes := cX1_allow) (maxL := 1) (rt := none) (As := [.int 0]) (rest := []) (lw_S q758 q759 q73 q760) hdS_X1_allow (by decide) rfl rfl (Nat.le_of_ble_eq_true rfl) dX1_setFor_33 h (fun r g_11 hk_ => ?_) (fun x g1 h => z_out C hQ h)
    exact hk_.2.elim
  · have h := h2 c; clear h1 h2
    refine lv_iconst (v := 1) C.x C.b dX1_setFor_28 (by decide) ?_
    refine lv_goto (tgt := 33) C.x C.b dX1_setFor_29 (by decide) ?_
    refine z_callS C hR hS hl (n := 1) (y := yX1_allow) (bytes := cX1_allow) (maxL := 1) (rt := none) (As := [.int 1]) (rest := []) (lw_S q758 q759 q73 q760) hdS_X1_allow (by decide) rfl rfl (Nat.le_of_ble_eq_true rfl) dX1_setFor_33 h (fun r g_12 hk_ => ?_) (fun x g1 h => z_out C hQ h)
    clear h; obtain ⟨rfl, h⟩ := hk_
    show GW X E 9 g_12 36 [(5, .ref a_6), (4, .ref a_3), (0, .ref a0), (1, .int x1), (2, .int x2), (3, .int x3)] []
    intro H locs ls hR hS hl
    refine lv_aload C.x C.b dX1_setFor_36 (lv_at hl 1 rfl) ?_
    obtain ⟨fs_13, a_14, q1, q2, h⟩ := h
    refine z_getN C hR q1 rfl (ci := 8) rfl in_X8 5 (by decide) q1443 (fun _ h => h) q2 dX1_setFor_38 ?_
    refine lv_iload_n C.x C.b dX1_setFor_41 rfl (lv_at hl 4 rfl) ?_
    refine z_callF C hR hS hl (n := 1) (C1 := RJ2) (T := TJ2) (N := 3) (ci := 0) (y := yJ2_get) (bytes := cJ2_get) (maxL := 2) (rt := (some (.object "java/lang/Object"))) (As := [.int x2]) (rest := []) (x := ⟨"java/util/List", "get", "(I)Ljava/lang/Object;"⟩) h.1 rfl (lw_F q378 q381 q383 q76 q385) ⟨C.ok.2.1 _ q380, C.ok.2.1 _ q379, C.ok.2.1 _ q384, C.ok.2.1 _ q382, C.ok.2.1 _ q174⟩ hdF_J2_get (by decide) rfl rfl (Nat.le_of_ble_eq_true rfl) dX1_setFor_42 h.2 (fun r g_15 hk_ => ?_) (fun x g1 h => z_out C hQ h)
    clear h; obtain ⟨r_16, rfl, h⟩ := hk_
    show GW X E 9 g_15 47 [(5, .ref a_6), (4, .ref a_3), (0, .ref a0), (1, .int x1), (2, .int x2), (3, .int x3)] [va_rf r_16]
    intro H locs ls hR hS hl
    obtain ⟨a_17, e_, h⟩ := h; subst e_
    have hl : lv_has ls 9 [(5, .ref a_6), (4, .ref a_3), (0, .ref a0), (1, .int x1), (2, .int x2), (3, .int x3)] := by assumption
    show zV X E H locs (F0 (zm E) 47 ls [.ref a_17])
    refine z_castS C hR (ci := 6) (C1 := RX6) (T := TX6) (N := 2) h.1 rfl q1220 dX1_setFor_47 ?_
    have h := h.2
    obtain ⟨fs_18, a_19, q1, q2, h⟩ := h
    refine z_getN C hR q1 rfl (ci := 6) rfl in_X6 0 (by decide) q1162 (fun _ h => h) q2 dX1_setFor_50 ?_
    obtain ⟨q1, h⟩ := h
    refine z_castI C hR hS q1 q1221 dX1_setFor_53 ?_
    obtain ⟨k_20, q0, q1, h⟩ := h
    rw [q1]
    have h := h _ rfl
    refine z_intValue C hR hS hl (lc := [(5, .ref a_6), (4, .ref a_3), (0, .ref a0), (1, .int x1), (2, .int x2), (3, .int x3)]) (rest := []) q0 q1222 (Nat.le_of_ble_eq_true rfl) dX1_setFor_56 ?_
    generalize vb_c k_20 = v_21 at h ⊢
    show GW X E 9 g_15 59 [(5, .ref a_6), (4, .ref a_3), (0, .ref a0), (1, .int x1), (2, .int x2), (3, .int x3)] [.int v_21]
    intro H locs ls hR hS hl
    obtain ⟨h1, h2⟩ := h
    refine lv_if_ne (tgt := 66) C.x C.b dX1_setFor_59 (by decide) (fun c => ?_) (fun c => ?_)
    · have h := h1 c; clear h1 h2
      refine lv_iconst (v := 0) C.x C.b dX1_setFor_66 (by decide) ?_
      refine lv_istore (lv' := [(6, .int 0), (5, .ref a_6), (4, .ref a_3), (0, .ref a0), (1, .int x1), (2, .int x2), (3, .int x3)]) C.x C.b dX1_setFor_67 hl (by decide) rfl (fun ls hl => ?_)
      obtain ⟨k_24, q0, q1, h⟩ := h
      refine z_new C hR hS k_24 q0 (ci := 0) rfl in_J2 tyJ2 tyJ2_ok q118 q119 q76 (fs := [.int 0, .null, .int 0]) zdf_J2 q1 dX1_setFor_69 (fun a_22 hf H hR hS => ?_)
      have h := h a_22 hf _ rfl
      generalize zSz (zSo g_15 k_24 a_22 [.int 0, .null, .int 0]) (zGz g_15 + 1 + 3) = g_23 at h hR
      refine lv_dup C.x C.b dX1_setFor_72 rfl ?_
      refine z_callI C hR hS hl (n := 0) (y := yJ2_init) (bytes := cJ2_init) (maxL := 1) (As := []) (rest := [.ref a_22]) (lw_meth q122) q76 q120 q121 rfl hdS_J2_init (by decide) rfl rfl (Nat.le_of_ble_eq_true rfl) dX1_setFor_73 h (fun r g_25 hk_ => ?_) (fun x g1 h => z_out C hQ h)
      clear h; obtain ⟨rfl, h⟩ := hk_
      show GW X E 9 g_25 76 [(6, .int 0), (5, .ref a_6), (4, .ref a_3), (0, .ref a0), (1, .int x1), (2, .int x2), (3, .int x3)] [.ref a_22]
      intro H locs ls hR hS hl
      refine lv_astore (lv' := [(7, .ref a_22), (6, .int 0), (5, .ref a_6), (4, .ref a_3), (0, .ref a0), (1, .int x1), (2, .int x2), (3, .int x3)]) C.x C.b dX1_setFor_76 hl (by decide) rfl (fun ls hl => ?_)
      refine lv_iconst (v := 1) C.x C.b dX1_setFor_78 (by decide) ?_
      refine lv_istore (lv' := [(8, .int 1), (7, .ref a_22), (6, .int 0), (5, .ref a_6), (4, .ref a_3), (0, .ref a0), (1, .int x1), (2, .int x2), (3, .int x3)]) C.x C.b dX1_setFor_79 hl (by decide) rfl (fun ls hl => ?_)
      exact h H locs ls hR hS (lv_sub hl [5, 8, 4, 3, 2, 1, 0] rfl)
    · have h := h2 c; clear h1 h2
      refine lv_iconst (v := 1) C.x C.b dX1_setFor_62 (by decide) ?_
      refine lv_goto (tgt := 67) C.x C.b dX1_setFor_63 (by decide) ?_
      refine lv_istore (lv' := [(6, .int 1), (5, .ref a_6), (4, .ref a_3), (0, .ref a0), (1, .int x1), (2, .int x2), (3, .int x3)]) C.x C.b dX1_setFor_67 hl (by decide) rfl (fun ls hl => ?_)
      obtain ⟨k_28, q0, q1, h⟩ := h
      refine z_new C hR hS k_28 q0 (ci := 0) rfl in_J2 tyJ2 tyJ2_ok q118 q119 q76 (fs := [.int 0, .null, .int 0]) zdf_J2 q1 dX1_setFor_69 (fun a_26 hf H hR hS => ?_)
      have h := h a_26 hf _ rfl
      generalize zSz (zSo g_15 k_28 a_26 [.int 0, .null, .int 0]) (zGz g_15 + 1 + 3) = g_27 at h hR
      refine lv_dup C.x C.b dX1_setFor_72 rfl ?_
      refine z_callI C hR hS hl (n := 0) (y := yJ2_init) (bytes := cJ2_init) (maxL := 1) (As := []) (rest := [.ref a_26]) (lw_meth q122) q76 q120 q121 rfl hdS_J2_init (by decide) rfl rfl (Nat.le_of_ble_eq_true rfl) dX1_setFor_73 h (fun r g_29 hk_ => ?_) (fun x g1 h => z_out C hQ h)
      clear h; obtain ⟨rfl, h⟩ := hk_
      show GW X E 9 g_29 76 [(6, .int 1), (5, .ref a_6), (4, .ref a_3), (0, .ref a0), (1, .int x1), (2, .int x2), (3, .int x3)] [.ref a_26]
      intro H locs ls hR hS hl
      refine lv_astore (lv' := [(7, .ref a_26), (6, .int 1), (5, .ref a_6), (4, .ref a_3), (0, .ref a0), (1, .int x1), (2, .int x2), (3, .int x3)]) C.x C.b dX1_setFor_76 hl (by decide) rfl (fun ls hl => ?_)
      refine lv_iconst (v := 1) C.x C.b dX1_setFor_78 (by decide) ?_
      refine lv_istore (lv' := [(8, .int 1), (7, .ref a_26), (6, .int 1), (5, .ref a_6), (4, .ref a_3), (0, .ref a0), (1, .int x1), (2, .int x2), (3, .int x3)]) C.x C.b dX1_setFor_79 hl (by decide) rfl (fun ls hl => ?_)
      exact h H locs ls hR hS (lv_sub hl [5, 8, 4, 3, 2, 1, 0] rfl)
theorem hdV_X1_setFor : yX1_setFor.cls = RX1 ∧ yX1_setFor.cls ≠ "java/lang/invoke/MethodHandle" ∧ yX1_setFor.cls ≠ "java/lang/invoke/VarHandle" ∧ (parseMethodDescriptor yX1_setFor.desc).map (fun d => d.parameters.length) = some 3 := by decide +kernel
set_option maxHeartbeats 4000000 in
theorem mX1_explanation {X : zX} {d : Nat} {g : zG} {K : Option Value → zG → Prop} {KX : String → zG → Prop} (hok : zOk X) (a0 : Nat) (x1 : Int32) (x2 : Int32) (h : zIs g 1 a0 ∧ zCal X d yX1_setFor wX1_setFor [.ref a0, .int x1, .int x2, .int 1] g (fun r g_1 => ∃ a_3 : Nat, r = some (.ref a_3) ∧ zIs g_1 0 a_3 ∧ zCal X d yJ2_size wJ2_size [.ref a_3] g_1 (fun r g_4 => ∃ v_5 : Int32, r = some (.int v_5) ∧ (¬ v_5 = 0 → K (some (.int v_5)) g_4) ∧ (v_5 = 0 → K (some (.int (-1))) g_4)) KX) KX) : zCal X (d + 1) yX1_explanation wX1_explanation [.ref a0, .int x1, .int x2] g K KX := by
  refine z_enter hok pn_X1 (Nat.le_of_ble_eq_true rfl) (fun E C hQ => ?_)
  have C : zC X (d + 1) E RX1 cX1_explanation 4 (some .int) "explanation" := C
  show GW X E 4 g 0 [(0, .ref a0), (1, .int x1), (2, .int x2)] []
  intro H locs ls hR hS hl
  refine lv_aload_n C.x C.b dX1_explanation_0 rfl (lv_at hl 0 rfl) ?_
  refine lv_iload_n C.x C.b dX1_explanation_1 rfl (lv_at hl 1 rfl) ?_
  refine lv_iload_n C.x C.b dX1_explanation_2 rfl (lv_at hl 2 rfl) ?_
  refine lv_iconst (v := 1) C.x C.b dX1_explanation_3 (by decide) ?_
  refine z_callV C hR hS hl (n := 3) (C1 := RX1) (T := TX1) (N := 12) (ci := 1) (y := yX1_setFor) (bytes := cX1_setFor) (maxL := 9) (rt := (some (.object "java/util/List"))) (As := [.int x1, .int x2, .int 1]) (rest := []) h.1 rfl (lw_V q1596 q1598 qs25 q73 q1599) hdV_X1_setFor (by decide) rfl rfl (Nat.le_of_ble_eq_true rfl) dX1_explanation_4 h.2 (fun r g_1 hk_ => ?_) (fun x g1 h => z_out C hQ h)
  clear h; obtain ⟨a_3, rfl, h⟩ := hk_
  show GW X E 4 g_1 7 [(0, .ref a0), (1, .int x1), (2, .int x2)] [.ref a_3]
  intro H locs ls hR hS hl
  refine z_callF C hR hS hl (n := 0) (C1 := RJ2) (T := TJ2) (N := 3) (ci := 0) (y := yJ2_size) (bytes := cJ2_size) (maxL := 1) (rt := (some .int)) (As := []) (rest := []) (x := ⟨"java/util/List", "size", "()I"⟩) h.1 rfl (lw_F q291 q294 q296 q76 q298) ⟨C.ok.2.1 _ q293, C.ok.2.1 _ q292, C.ok.2.1 _ q297, C.ok.2.1 _ q295, C.ok.2.1 _ q174⟩ hdF_J2_size (by decide) rfl rfl (Nat.le_of_ble_eq_true rfl) dX1_explanation_7 h.2 (fun r g_4 hk_ => ?_) (fun x g1 h => z_out C hQ h)
  clear h; obtain ⟨v_5, rfl, h⟩ := hk_
  show GW X E 4 g_4 12 [(0, .ref a0), (1, .int x1), (2, .int x2)] [.int v_5]
  intro H locs ls hR hS hl
  refine lv_istore_n (lv' := [(3, .int v_5), (0, .ref a0), (1, .int x1), (2, .int x2)]) C.x C.b dX1_explanation_12 rfl hl (by decide) rfl (fun ls hl => ?_)
  refine lv_iload_n C.x C.b dX1_explanation_13 rfl (lv_at hl 0 rfl) ?_
  obtain ⟨h1, h2⟩ := h
  refine lv_if_ne (tgt := 21) C.x C.b dX1_explanation_14 (by decide) (fun c => ?_) (fun c => ?_)
  · have h := h1 c; clear h1 h2
    refine lv_iload_n C.x C.b dX1_explanation_21 rfl (lv_at hl 0 rfl) ?_
    exact z_iret C hQ dX1_explanation_22 h H locs ls hR hS hl
  · have h := h2 c; clear h1 h2
    refine lv_iconst (v := (-1)) C.x C.b dX1_explanation_17 (by decide) ?_
    refine lv_goto (tgt := 22) C.x C.b dX1_explanation_18 (by decide) ?_
    exact z_iret C hQ dX1_explanation_22 h H locs ls hR hS hl
set_option maxHeartbeats 4000000 in
theorem mX1_explainedBy {X : zX} {d : Nat} {g : zG} {K : Option Value → zG → Prop} {KX : String → zG → Prop} (hok : zOk X) (a0 : Nat) (x1 : Int32) (x2 : Int32) (x3 : Int32) (h : zIs g 1 a0 ∧ zCal X d yX1_setFor wX1_setFor [.ref a0, .int x1, .int x2, .int 1] g (fun r g_1 => ∃ a_3 : Nat, r = some (.ref a_3) ∧ zIs g_1 0 a_3 ∧ zCal X d yJ2_size wJ2_size [.ref a_3] g_1 (fun r g_4 => ∃ v_5 : Int32, r = some (.int v_5) ∧ zCal X d yX1_isIn wX1_isIn [.int x3, .int 0, .int (v_5 - 1)] g_4 (fun r g_6 => ∃ v_7 : Int32, r = some (.int v_7) ∧ zbo v_7 ∧ (v_7 = 0 → K (some (.int (-1))) g_6) ∧ (¬ v_7 = 0 → zIs g_6 0 a_3 ∧ zCal X d yJ2_get wJ2_get [.ref a_3, .int x3] g_6 (fun r g_8 => ∃ r_9 : Option Nat, r = some (va_rf r_9) ∧ ∃ a_10 : Nat, r_9 = some a_10 ∧ zIs g_8 4 a_10 ∧ ∃ (fs_11 : List Value) (v_12 : Int32), zGo g_8 4 a_10 = some fs_11 ∧ fs_11[0]? = some (.int v_12) ∧ K (some (.int v_12)) g_8) KX)) KX) KX) KX) : zCal X (d + 1) yX1_explainedBy wX1_explainedBy [.ref a0, .int x1, .int x2, .int x3] g K KX := by
  refine z_enter hok pn_X1 (Nat.le_of_ble_eq_true rfl) (fun E C hQ => ?_)
  have C : zC X (d + 1) E RX1 cX1_explainedBy 5 (some .int) "explainedBy" := C
  show GW X E 5 g 0 [(0, .ref a0), (1, .int x1), (2, .int x2), (3, .int x3)] []
  intro H locs ls hR hS hl
  refine lv_aload_n C.x C.b dX1_explainedBy_0 rfl (lv_at hl 0 rfl) ?_
  refine lv_iload_n C.x C.b dX1_explainedBy_1 rfl (lv_at hl 1 rfl) ?_
  refine lv_iload_n C.x C.b dX1_explainedBy_2 rfl (lv_at hl 2 rfl) ?_
  refine lv_iconst (v := 1) C.x C.b dX1_explainedBy_3 (by decide) ?_
  refine z_callV C hR hS hl (n := 3) (C1 := RX1) (T := TX1) (N := 12) (ci := 1) (y := yX1_setFor) (bytes := cX1_setFor) (maxL := 9) (rt := (some (.object "java/util/List"))) (As := [.int x1, .int x2, .int 1]) (rest := []) h.1 rfl (lw_V q1596 q1598 qs25 q73 q1599) hdV_X1_setFor (by decide) rfl rfl (Nat.le_of_ble_eq_true rfl) dX1_explainedBy_4 h.2 (fun r g_1 hk_ => ?_) (fun x g1 h => z_out C hQ h)
  clear h; obtain ⟨a_3, rfl, h⟩ := hk_
  show GW X E 5 g_1 7 [(0, .ref a0), (1, .int x1), (2, .int x2), (3, .int x3)] [.ref a_3]
  intro H locs ls hR hS hl
  refine lv_astore (lv' := [(4, .ref a_3), (0, .ref a0), (1, .int x1), (2, .int x2), (3, .int x3)]) C.x C.b dX1_explainedBy_7 hl (by decide) rfl (fun ls hl => ?_)
  refine lv_iload_n C.x C.b dX1_explainedBy_9 rfl (lv_at hl 4 rfl) ?_
  refine lv_iconst (v := 0) C.x C.b dX1_explainedBy_10 (by decide) ?_
  refine lv_aload C.x C.b dX1_explainedBy_11 (lv_at hl 0 rfl) ?_
  refine z_callF C hR hS hl (n := 0) (C1 := RJ2) (T := TJ2) (N := 3) (ci := 0) (y := yJ2_size) (bytes := cJ2_size) (maxL := 1) (rt := (some .int)) (As := []) (rest := [.int 0, .int x3]) (x := ⟨"java/util/List", "size", "()I"⟩) h.1 rfl (lw_F q291 q294 q296 q76 q298) ⟨C.ok.2.1 _ q293, C.ok.2.1 _ q292, C.ok.2.1 _ q297, C.ok.2.1 _ q295, C.ok.2.1 _ q174⟩ hdF_J2_size (by decide) rfl rfl (Nat.le_of_ble_eq_true rfl) dX1_explainedBy_13 h.2 (fun r g_4 hk_ => ?_) (fun x g1 h => z_out C hQ h)
  clear h; obtain ⟨v_5, rfl, h⟩ := hk_
  show GW X E 5 g_4 18 [(4, .ref a_3), (0, .ref a0), (1, .int x1), (2, .int x2), (3, .int x3)] [.int v_5, .int 0, .int x3]
  intro H locs ls hR hS hl
  refine lv_iconst (v := 1) C.x C.b dX1_explainedBy_18 (by decide) ?_
  refine lv_isub C.x C.b dX1_explainedBy_19 ?_
  refine z_callS C hR hS hl (n := 3) (y := yX1_isIn) (bytes := cX1_isIn) (maxL := 3) (rt := (some .boolean)) (As := [.int x3, .int 0, .int (v_5 - 1)]) (rest := []) (lw_S q701 q702 q73 q703) hdS_X1_isIn (by decide) rfl rfl (Nat.le_of_ble_eq_true rfl) dX1_explainedBy_20 h (fun r g_6 hk_ => ?_) (fun x g1 h => z_out C hQ h)
  clear h; obtain ⟨v_7, rfl, zb_, h⟩ := hk_
  show GW X E 5 g_6 23 [(4, .ref a_3), (0, .ref a0), (1, .int x1), (2, .int x2), (3, .int x3)] [.int v_7]
  intro H locs ls hR hS hl
  obtain ⟨h1, h2⟩ := h
  refine lv_if_eq (tgt := 43) C.x C.b dX1_explainedBy_23 (by decide) (fun c => ?_) (fun c => ?_)
  · have h := h1 c; clear h1 h2
    refine lv_iconst (v := (-1)) C.x C.b dX1_explainedBy_43 (by decide) ?_
    exact z_iret C hQ dX1_explainedBy_44 h H locs ls hR hS hl
  · have h := h2 c; clear h1 h2
    refine lv_aload C.x C.b dX1_explainedBy_26 (lv_at hl 0 rfl) ?_
    refine lv_iload_n C.x C.b dX1_explainedBy_28 rfl (lv_at hl 4 rfl) ?_
    refine z_callF C hR hS hl (n := 1) (C1 := RJ2) (T := TJ2) (N := 3) (ci := 0) (y := yJ2_get) (bytes := cJ2_get) (maxL := 2) (rt := (some (.object "java/lang/Object"))) (As := [.int x3]) (rest := []) (x := ⟨"java/util/List", "get", "(I)Ljava/lang/Object;"⟩) h.1 rfl (lw_F q378 q381 q383 q76 q385) ⟨C.ok.2.1 _ q380, C.ok.2.1 _ q379, C.ok.2.1 _ q384, C.ok.2.1 _ q382, C.ok.2.1 _ q174⟩ hdF_J2_get (by decide) rfl rfl (Nat.le_of_ble_eq_true rfl) dX1_explainedBy_29 h.2 (fun r g_8 hk_ => ?_) (fun x g1 h => z_out C hQ h)
    clear h; obtain ⟨r_9, rfl, h⟩ := hk_
    show GW X E 5 g_8 34 [(4, .ref a_3), (0, .ref a0), (1, .int x1), (2, .int x2), (3, .int x3)] [va_rf r_9]
    intro H locs ls hR hS hl
    obtain ⟨a_10, e_, h⟩ := h; subst e_
    have hl : lv_has ls 5 [(4, .ref a_3), (0, .ref a0), (1, .int x1), (2, .int x2), (3, .int x3)] := by assumption
    show zV X E H locs (F0 (zm E) 34 ls [.ref a_10])
    refine z_castS C hR (ci := 4) (C1 := RX4) (T := TX4) (N := 7) h.1 rfl q455 dX1_explainedBy_34 ?_
    have h := h.2
    obtain ⟨fs_11, v_12, q1, q2, h⟩ := h
    refine z_getN C hR q1 rfl (ci := 4) rfl in_X4 0 (by decide) q784 (fun _ h => h) q2 dX1_explainedBy_37 ?_
    refine lv_goto (tgt := 44) C.x C.b dX1_explainedBy_40 (by decide) ?_
    exact z_iret C hQ dX1_explainedBy_44 h H locs ls hR hS hl
set_option maxHeartbeats 4000000 in
theorem mX1_mend {X : zX} {d : Nat} {g : zG} {K : Option Value → zG → Prop} {KX : String → zG → Prop} (hok : zOk X) (a0 : Nat) (x1 : Int32) (x2 : Int32) (h : zIs g 1 a0 ∧ zCal X d yX1_setFor wX1_setFor [.ref a0, .int x1, .int x2, .int 0] g (fun r g_1 => ∃ a_3 : Nat, r = some (.ref a_3) ∧ zIs g_1 0 a_3 ∧ zCal X d yJ2_size wJ2_size [.ref a_3] g_1 (fun r g_4 => ∃ v_5 : Int32, r = some (.int v_5) ∧ (¬ v_5 = 0 → K (some (.int v_5)) g_4) ∧ (v_5 = 0 → K (some (.int (-1))) g_4)) KX) KX) : zCal X (d + 1) yX1_mend wX1_mend [.ref a0, .int x1, .int x2] g K KX := by
  refine z_enter hok pn_X1 (Nat.le_of_ble_eq_true rfl) (fun E C hQ => ?_)
  have C : zC X (d + 1) E RX1 cX1_mend 4 (some .int) "mend" := C
  show GW X E 4 g 0 [(0, .ref a0), (1, .int x1), (2, .int x2)] []
  intro H locs ls hR hS hl
  refine lv_aload_n C.x C.b dX1_mend_0 rfl (lv_at hl 0 rfl) ?_
  refine lv_iload_n C.x C.b dX1_mend_1 rfl (lv_at hl 1 rfl) ?_
  refine lv_iload_n C.x C.b dX1_mend_2 rfl (lv_at hl 2 rfl) ?_
  refine lv_iconst (v := 0) C.x C.b dX1_mend_3 (by decide) ?_
  refine z_callV C hR hS hl (n := 3) (C1 := RX1) (T := TX1) (N := 12) (ci := 1) (y := yX1_setFor) (bytes := cX1_setFor) (maxL := 9) (rt := (some (.object "java/util/List"))) (As := [.int x1, .int x2, .int 0]) (rest := []) h.1 rfl (lw_V q1596 q1598 qs25 q73 q1599) hdV_X1_setFor (by decide) rfl rfl (Nat.le_of_ble_eq_true rfl) dX1_mend_4 h.2 (fun r g_1 hk_ => ?_) (fun x g1 h => z_out C hQ h)
  clear h; obtain ⟨a_3, rfl, h⟩ := hk_
  show GW X E 4 g_1 7 [(0, .ref a0), (1, .int x1), (2, .int x2)] [.ref a_3]
  intro H locs ls hR hS hl
  refine z_callF C hR hS hl (n := 0) (C1 := RJ2) (T := TJ2) (N := 3) (ci := 0) (y := yJ2_size) (bytes := cJ2_size) (maxL := 1) (rt := (some .int)) (As := []) (rest := []) (x := ⟨"java/util/List", "size", "()I"⟩) h.1 rfl (lw_F q291 q294 q296 q76 q298) ⟨C.ok.2.1 _ q293, C.ok.2.1 _ q292, C.ok.2.1 _ q297, C.ok.2.1 _ q295, C.ok.2.1 _ q174⟩ hdF_J2_size (by decide) rfl rfl (Nat.le_of_ble_eq_true rfl) dX1_mend_7 h.2 (fun r g_4 hk_ => ?_) (fun x g1 h => z_out C hQ h)
  clear h; obtain ⟨v_5, rfl, h⟩ := hk_
  show GW X E 4 g_4 12 [(0, .ref a0), (1, .int x1), (2, .int x2)] [.int v_5]
  intro H locs ls hR hS hl
  refine lv_istore_n (lv' := [(3, .int v_5), (0, .ref a0), (1, .int x1), (2, .int x2)]) C.x C.b dX1_mend_12 rfl hl (by decide) rfl (fun ls hl => ?_)
  refine lv_iload_n C.x C.b dX1_mend_13 rfl (lv_at hl 0 rfl) ?_
  obtain ⟨h1, h2⟩ := h
  refine lv_if_ne (tgt := 21) C.x C.b dX1_mend_14 (by decide) (fun c => ?_) (fun c => ?_)
  · have h := h1 c; clear h1 h2
    refine lv_iload_n C.x C.b dX1_mend_21 rfl (lv_at hl 0 rfl) ?_
    exact z_iret C hQ dX1_mend_22 h H locs ls hR hS hl
  · have h := h2 c; clear h1 h2
    refine lv_iconst (v := (-1)) C.x C.b dX1_mend_17 (by decide) ?_
    refine lv_goto (tgt := 22) C.x C.b dX1_mend_18 (by decide) ?_
    exact z_iret C hQ dX1_mend_22 h H locs ls hR hS hl
set_option maxHeartbeats 4000000 in
theorem mX1_mendedBy {X : zX} {d : Nat} {g : zG} {K : Option Value → zG → Prop} {KX : String → zG → Prop} (hok : zOk X) (a0 : Nat) (x1 : Int32) (x2 : Int32) (x3 : Int32) (h : zIs g 1 a0 ∧ zCal X d yX1_setFor wX1_setFor [.ref a0, .int x1, .int x2, .int 0] g (fun r g_1 => ∃ a_3 : Nat, r = some (.ref a_3) ∧ zIs g_1 0 a_3 ∧ zCal X d yJ2_size wJ2_size [.ref a_3] g_1 (fun r g_4 => ∃ v_5 : Int32, r = some (.int v_5) ∧ zCal X d yX1_isIn wX1_isIn [.int x3, .int 0, .int (v_5 - 1)] g_4 (fun r g_6 => ∃ v_7 : Int32, r = some (.int v_7) ∧ zbo v_7 ∧ (v_7 = 0 → K (some (.int (-1))) g_6) ∧ (¬ v_7 = 0 → zIs g_6 0 a_3 ∧ zCal X d yJ2_get wJ2_get [.ref a_3, .int x3] g_6 (fun r g_8 => ∃ r_9 : Option Nat, r = some (va_rf r_9) ∧ ∃ a_10 : Nat, r_9 = some a_10 ∧ zIs g_8 4 a_10 ∧ ∃ (fs_11 : List Value) (v_12 : Int32), zGo g_8 4 a_10 = some fs_11 ∧ fs_11[0]? = some (.int v_12) ∧ K (some (.int v_12)) g_8) KX)) KX) KX) KX) : zCal X (d + 1) yX1_mendedBy wX1_mendedBy [.ref a0, .int x1, .int x2, .int x3] g K KX := by
  refine z_enter hok pn_X1 (Nat.le_of_ble_eq_true rfl) (fun E C hQ => ?_)
  have C : zC X (d + 1) E RX1 cX1_mendedBy 5 (some .int) "mendedBy" := C
  show GW X E 5 g 0 [(0, .ref a0), (1, .int x1), (2, .int x2), (3, .int x3)] []
  intro H locs ls hR hS hl
  refine lv_aload_n C.x C.b dX1_mendedBy_0 rfl (lv_at hl 0 rfl) ?_
  refine lv_iload_n C.x C.b dX1_mendedBy_1 rfl (lv_at hl 1 rfl) ?_
  refine lv_iload_n C.x C.b dX1_mendedBy_2 rfl (lv_at hl 2 rfl) ?_
  refine lv_iconst (v := 0) C.x C.b dX1_mendedBy_3 (by decide) ?_
  refine z_callV C hR hS hl (n := 3) (C1 := RX1) (T := TX1) (N := 12) (ci := 1) (y := yX1_setFor) (bytes := cX1_setFor) (maxL := 9) (rt := (some (.object "java/util/List"))) (As := [.int x1, .int x2, .int 0]) (rest := []) h.1 rfl (lw_V q1596 q1598 qs25 q73 q1599) hdV_X1_setFor (by decide) rfl rfl (Nat.le_of_ble_eq_true rfl) dX1_mendedBy_4 h.2 (fun r g_1 hk_ => ?_) (fun x g1 h => z_out C hQ h)
  clear h; obtain ⟨a_3, rfl, h⟩ := hk_
  show GW X E 5 g_1 7 [(0, .ref a0), (1, .int x1), (2, .int x2), (3, .int x3)] [.ref a_3]
  intro H locs ls hR hS hl
  refine lv_astore (lv' := [(4, .ref a_3), (0, .ref a0), (1, .int x1), (2, .int x2), (3, .int x3)]) C.x C.b dX1_mendedBy_7 hl (by decide) rfl (fun ls hl => ?_)
  refine lv_iload_n C.x C.b dX1_mendedBy_9 rfl (lv_at hl 4 rfl) ?_
  refine lv_iconst (v := 0) C.x C.b dX1_mendedBy_10 (by decide) ?_
  refine lv_aload C.x C.b dX1_mendedBy_11 (lv_at hl 0 rfl) ?_
  refine z_callF C hR hS hl (n := 0) (C1 := RJ2) (T := TJ2) (N := 3) (ci := 0) (y := yJ2_size) (bytes := cJ2_size) (maxL := 1) (rt := (some .int)) (As := []) (rest := [.int 0, .int x3]) (x := ⟨"java/util/List", "size", "()I"⟩) h.1 rfl (lw_F q291 q294 q296 q76 q298) ⟨C.ok.2.1 _ q293, C.ok.2.1 _ q292, C.ok.2.1 _ q297, C.ok.2.1 _ q295, C.ok.2.1 _ q174⟩ hdF_J2_size (by decide) rfl rfl (Nat.le_of_ble_eq_true rfl) dX1_mendedBy_13 h.2 (fun r g_4 hk_ => ?_) (fun x g1 h => z_out C hQ h)
  clear h; obtain ⟨v_5, rfl, h⟩ := hk_
  show GW X E 5 g_4 18 [(4, .ref a_3), (0, .ref a0), (1, .int x1), (2, .int x2), (3, .int x3)] [.int v_5, .int 0, .int x3]
  intro H locs ls hR hS hl
  refine lv_iconst (v := 1) C.x C.b dX1_mendedBy_18 (by decide) ?_
  refine lv_isub C.x C.b dX1_mendedBy_19 ?_
  refine z_callS C hR hS hl (n := 3) (y := yX1_isIn) (bytes := cX1_isIn) (maxL := 3) (rt := (some .boolean)) (As := [.int x3, .int 0, .int (v_5 - 1)]) (rest := []) (lw_S q701 q702 q73 q703) hdS_X1_isIn (by decide) rfl rfl (Nat.le_of_ble_eq_true rfl) dX1_mendedBy_20 h (fun r g_6 hk_ => ?_) (fun x g1 h => z_out C hQ h)
  clear h; obtain ⟨v_7, rfl, zb_, h⟩ := hk_
  show GW X E 5 g_6 23 [(4, .ref a_3), (0, .ref a0), (1, .int x1), (2, .int x2), (3, .int x3)] [.int v_7]
  intro H locs ls hR hS hl
  obtain ⟨h1, h2⟩ := h
  refine lv_if_eq (tgt := 43) C.x C.b dX1_mendedBy_23 (by decide) (fun c => ?_) (fun c => ?_)
  · have h := h1 c; clear h1 h2
    refine lv_iconst (v := (-1)) C.x C.b dX1_mendedBy_43 (by decide) ?_
    exact z_iret C hQ dX1_mendedBy_44 h H locs ls hR hS hl
  · have h := h2 c; clear h1 h2
    refine lv_aload C.x C.b dX1_mendedBy_26 (lv_at hl 0 rfl) ?_
    refine lv_iload_n C.x C.b dX1_mendedBy_28 rfl (lv_at hl 4 rfl) ?_
    refine z_callF C hR hS hl (n := 1) (C1 := RJ2) (T := TJ2) (N := 3) (ci := 0) (y := yJ2_get) (bytes := cJ2_get) (maxL := 2) (rt := (some (.object "java/lang/Object"))) (As := [.int x3]) (rest := []) (x := ⟨"java/util/List", "get", "(I)Ljava/lang/Object;"⟩) h.1 rfl (lw_F q378 q381 q383 q76 q385) ⟨C.ok.2.1 _ q380, C.ok.2.1 _ q379, C.ok.2.1 _ q384, C.ok.2.1 _ q382, C.ok.2.1 _ q174⟩ hdF_J2_get (by decide) rfl rfl (Nat.le_of_ble_eq_true rfl) dX1_mendedBy_29 h.2 (fun r g_8 hk_ => ?_) (fun x g1 h => z_out C hQ h)
    clear h; obtain ⟨r_9, rfl, h⟩ := hk_
    show GW X E 5 g_8 34 [(4, .ref a_3), (0, .ref a0), (1, .int x1), (2, .int x2), (3, .int x3)] [va_rf r_9]
    intro H locs ls hR hS hl
    obtain ⟨a_10, e_, h⟩ := h; subst e_
    have hl : lv_has ls 5 [(4, .ref a_3), (0, .ref a0), (1, .int x1), (2, .int x2), (3, .int x3)] := by assumption
    show zV X E H locs (F0 (zm E) 34 ls [.ref a_10])
    refine z_castS C hR (ci := 4) (C1 := RX4) (T := TX4) (N := 7) h.1 rfl q455 dX1_mendedBy_34 ?_
    have h := h.2
    obtain ⟨fs_11, v_12, q1, q2, h⟩ := h
    refine z_getN C hR q1 rfl (ci := 4) rfl in_X4 0 (by decide) q784 (fun _ h => h) q2 dX1_mendedBy_37 ?_
    refine lv_goto (tgt := 44) C.x C.b dX1_mendedBy_40 (by decide) ?_
    exact z_iret C hQ dX1_mendedBy_44 h H locs ls hR hS hl
