set_option maxRecDepth 100000
set_option maxHeartbeats 4000000 in
theorem mX3_thrown {X : zX} {d : Nat} {g : zG} {K : Option Value → zG → Prop} {KX : String → zG → Prop} (hok : zOk X) (a0 : Nat) (h : ∃ (fs_1 : List Value) (v_2 : Int32), zGo g 3 a0 = some fs_1 ∧ fs_1[34]? = some (.int v_2) ∧ K (some (.int v_2)) g) : zCal X d yX3_thrown wX3_thrown [.ref a0] g K KX := by
  refine z_enter hok pn_X3 (Nat.le_of_ble_eq_true rfl) (fun E C hQ => ?_)
  have C : zC X d E RX3 cX3_thrown 1 (some .int) "thrown" := C
  show GW X E 1 g 0 [(0, .ref a0)] []
  intro H locs ls hR hS hl
  refine lv_aload_n C.x C.b dX3_thrown_0 rfl (lv_at hl 0 rfl) ?_
  obtain ⟨fs_1, v_2, q1, q2, h⟩ := h
  refine z_get C hR q1 rfl (ci := 3) rfl in_X3 34 (by decide) q1671 (fun _ h => h) q2 dX3_thrown_1 ?_
  exact z_iret C hQ dX3_thrown_4 h H locs ls hR hS hl
set_option maxHeartbeats 4000000 in
theorem mX3_goes {X : zX} {d : Nat} {g : zG} {K : Option Value → zG → Prop} {KX : String → zG → Prop} (hok : zOk X) (a0 : Nat) (x1 : Int32) (x2 : Int32) (x3 : Int32) (h : (¬ x1 = 0 → (¬ x2 = 0 → (¬ x3 = 0 → ∃ (fs_1 : List Value), zGo g 3 a0 = some fs_1 ∧ 34 < fs_1.length ∧ ∀ g_2 : zG, g_2 = zSo g 3 a0 (fs_1.set 34 (.int 0)) → ∃ (fs_3 : List Value) (v_4 : Int32), zGo g_2 3 a0 = some fs_3 ∧ fs_3[34]? = some (.int v_4) ∧ (¬ v_4 = 0 → K (some (.int 0)) g_2) ∧ (v_4 = 0 → K (some (.int 1)) g_2)) ∧ (x3 = 0 → ∃ (fs_5 : List Value), zGo g 3 a0 = some fs_5 ∧ 34 < fs_5.length ∧ ∀ g_6 : zG, g_6 = zSo g 3 a0 (fs_5.set 34 (.int 3)) → ∃ (fs_7 : List Value) (v_8 : Int32), zGo g_6 3 a0 = some fs_7 ∧ fs_7[34]? = some (.int v_8) ∧ (¬ v_8 = 0 → K (some (.int 0)) g_6) ∧ (v_8 = 0 → K (some (.int 1)) g_6))) ∧ (x2 = 0 → ∃ (fs_9 : List Value), zGo g 3 a0 = some fs_9 ∧ 34 < fs_9.length ∧ ∀ g_10 : zG, g_10 = zSo g 3 a0 (fs_9.set 34 (.int 2)) → ∃ (fs_11 : List Value) (v_12 : Int32), zGo g_10 3 a0 = some fs_11 ∧ fs_11[34]? = some (.int v_12) ∧ (¬ v_12 = 0 → K (some (.int 0)) g_10) ∧ (v_12 = 0 → K (some (.int 1)) g_10))) ∧ (x1 = 0 → ∃ (fs_13 : List Value), zGo g 3 a0 = some fs_13 ∧ 34 < fs_13.length ∧ ∀ g_14 : zG, g_14 = zSo g 3 a0 (fs_13.set 34 (.int 1)) → ∃ (fs_15 : List Value) (v_16 : Int32), zGo g_14 3 a0 = some fs_15 ∧ fs_15[34]? = some (.int v_16) ∧ (¬ v_16 = 0 → K (some (.int 0)) g_14) ∧ (v_16 = 0 → K (some (.int 1)) g_14))) : zCal X d yX3_goes wX3_goes [.ref a0, .int x1, .int x2, .int x3] g K KX := by
  refine z_enter hok pn_X3 (Nat.le_of_ble_eq_true rfl) (fun E C hQ => ?_)
  have C : zC X d E RX3 cX3_goes 4 (some .boolean) "goes" := C
  show GW X E 4 g 0 [(0, .ref a0), (1, .int x1), (2, .int x2), (3, .int x3)] []
  intro H locs ls hR hS hl
  refine lv_aload_n C.x C.b dX3_goes_0 rfl (lv_at hl 0 rfl) ?_
  refine lv_iload_n C.x C.b dX3_goes_1 rfl (lv_at hl 1 rfl) ?_
  obtain ⟨h1, h2⟩ := h
  refine lv_if_ne (tgt := 9) C.x C.b dX3_goes_2 (by decide) (fun c => ?_) (fun c => ?_)
  · have h := h1 c; clear h1 h2
    refine lv_iload_n C.x C.b dX3_goes_9 rfl (lv_at hl 2 rfl) ?_
    obtain ⟨h1, h2⟩ := h
    refine lv_if_ne (tgt := 17) C.x C.b dX3_goes_10 (by decide) (fun c => ?_) (fun c => ?_)
    · have h := h1 c; clear h1 h2
      refine lv_iload_n C.x C.b dX3_goes_17 rfl (lv_at hl 3 rfl) ?_
      obtain ⟨h1, h2⟩ := h
      refine lv_if_ne (tgt := 25) C.x C.b dX3_goes_18 (by decide) (fun c => ?_) (fun c => ?_)
      · have h := h1 c; clear h1 h2
        refine lv_iconst (v := 0) C.x C.b dX3_goes_25 (by decide) ?_
        obtain ⟨fs_1, q1, q2, h⟩ := h
        refine z_put C hR hS q1 rfl (ci := 3) rfl in_X3 tyX3 tyX3_ok nmX3 34 (by decide) q1671 (fun _ h => h) rfl ⟨rfl, rfl⟩ q2 dX3_goes_26 (fun H locs hR hS => ?_)
        have h := h _ rfl
        generalize zSo g 3 a0 (fs_1.set 34 (.int 0)) = g_2 at h hR
        refine lv_aload_n C.x C.b dX3_goes_29 rfl (lv_at hl 0 rfl) ?_
        obtain ⟨fs_3, v_4, q1, q2, h⟩ := h
        refine z_get C hR q1 rfl (ci := 3) rfl in_X3 34 (by decide) q1671 (fun _ h => h) q2 dX3_goes_30 ?_
        obtain ⟨h1, h2⟩ := h
        refine lv_if_ne (tgt := 40) C.x C.b dX3_goes_33 (by decide) (fun c => ?_) (fun c => ?_)
        · have h := h1 c; clear h1 h2
          refine lv_iconst (v := 0) C.x C.b dX3_goes_40 (by decide) ?_
          exact z_zret C hQ rfl dX3_goes_41 h H locs ls hR hS hl
        · have h := h2 c; clear h1 h2
          refine lv_iconst (v := 1) C.x C.b dX3_goes_36 (by decide) ?_
          refine lv_goto (tgt := 41) C.x C.b dX3_goes_37 (by decide) ?_
          exact z_zret C hQ rfl dX3_goes_41 h H locs ls hR hS hl
      · have h := h2 c; clear h1 h2
        refine lv_iconst (v := 3) C.x C.b dX3_goes_21 (by decide) ?_
        refine lv_goto (tgt := 26) C.x C.b dX3_goes_22 (by decide) ?_
        obtain ⟨fs_5, q1, q2, h⟩ := h
        refine z_put C hR hS q1 rfl (ci := 3) rfl in_X3 tyX3 tyX3_ok nmX3 34 (by decide) q1671 (fun _ h => h) rfl ⟨rfl, rfl⟩ q2 dX3_goes_26 (fun H locs hR hS => ?_)
        have h := h _ rfl
        generalize zSo g 3 a0 (fs_5.set 34 (.int 3)) = g_6 at h hR
        refine lv_aload_n C.x C.b dX3_goes_29 rfl (lv_at hl 0 rfl) ?_
        obtain ⟨fs_7, v_8, q1, q2, h⟩ := h
        refine z_get C hR q1 rfl (ci := 3) rfl in_X3 34 (by decide) q1671 (fun _ h => h) q2 dX3_goes_30 ?_
        obtain ⟨h1, h2⟩ := h
        refine lv_if_ne (tgt := 40) C.x C.b dX3_goes_33 (by decide) (fun c => ?_) (fun c => ?_)
        · have h := h1 c; clear h1 h2
          refine lv_iconst (v := 0) C.x C.b dX3_goes_40 (by decide) ?_
          exact z_zret C hQ rfl dX3_goes_41 h H locs ls hR hS hl
        · have h := h2 c; clear h1 h2
          refine lv_iconst (v := 1) C.x C.b dX3_goes_36 (by decide) ?_
          refine lv_goto (tgt := 41) C.x C.b dX3_goes_37 (by decide) ?_
          exact z_zret C hQ rfl dX3_goes_41 h H locs ls hR hS hl
    · have h := h2 c; clear h1 h2
      refine lv_iconst (v := 2) C.x C.b dX3_goes_13 (by decide) ?_
      refine lv_goto (tgt := 26) C.x C.b dX3_goes_14 (by decide) ?_
      obtain ⟨fs_9, q1, q2, h⟩ := h
      refine z_put C hR hS q1 rfl (ci := 3) rfl in_X3 tyX3 tyX3_ok nmX3 34 (by decide) q1671 (fun _ h => h) rfl ⟨rfl, rfl⟩ q2 dX3_goes_26 (fun H locs hR hS => ?_)
      have h := h _ rfl
      generalize zSo g 3 a0 (fs_9.set 34 (.int 2)) = g_10 at h hR
      refine lv_aload_n C.x C.b dX3_goes_29 rfl (lv_at hl 0 rfl) ?_
      obtain ⟨fs_11, v_12, q1, q2, h⟩ := h
      refine z_get C hR q1 rfl (ci := 3) rfl in_X3 34 (by decide) q1671 (fun _ h => h) q2 dX3_goes_30 ?_
      obtain ⟨h1, h2⟩ := h
      refine lv_if_ne (tgt := 40) C.x C.b dX3_goes_33 (by decide) (fun c => ?_) (fun c => ?_)
      · have h := h1 c; clear h1 h2
        refine lv_iconst (v := 0) C.x C.b dX3_goes_40 (by decide) ?_
        exact z_zret C hQ rfl dX3_goes_41 h H locs ls hR hS hl
      · have h := h2 c; clear h1 h2
        refine lv_iconst (v := 1) C.x C.b dX3_goes_36 (by decide) ?_
        refine lv_goto (tgt := 41) C.x C.b dX3_goes_37 (by decide) ?_
        exact z_zret C hQ rfl dX3_goes_41 h H locs ls hR hS hl
  · have h := h2 c; clear h1 h2
    refine lv_iconst (v := 1) C.x C.b dX3_goes_5 (by decide) ?_
    refine lv_goto (tgt := 26) C.x C.b dX3_goes_6 (by decide) ?_
    obtain ⟨fs_13, q1, q2, h⟩ := h
    refine z_put C hR hS q1 rfl (ci := 3) rfl in_X3 tyX3 tyX3_ok nmX3 34 (by decide) q1671 (fun _ h => h) rfl ⟨rfl, rfl⟩ q2 dX3_goes_26 (fun H locs hR hS => ?_)
    have h := h _ rfl
    generalize zSo g 3 a0 (fs_13.set 34 (.int 1)) = g_14 at h hR
    refine lv_aload_n C.x C.b dX3_goes_29 rfl (lv_at hl 0 rfl) ?_
    obtain ⟨fs_15, v_16, q1, q2, h⟩ := h
    refine z_get C hR q1 rfl (ci := 3) rfl in_X3 34 (by decide) q1671 (fun _ h => h) q2 dX3_goes_30 ?_
    obtain ⟨h1, h2⟩ := h
    refine lv_if_ne (tgt := 40) C.x C.b dX3_goes_33 (by decide) (fun c => ?_) (fun c => ?_)
    · have h := h1 c; clear h1 h2
      refine lv_iconst (v := 0) C.x C.b dX3_goes_40 (by decide) ?_
      exact z_zret C hQ rfl dX3_goes_41 h H locs ls hR hS hl
    · have h := h2 c; clear h1 h2
      refine lv_iconst (v := 1) C.x C.b dX3_goes_36 (by decide) ?_
      refine lv_goto (tgt := 41) C.x C.b dX3_goes_37 (by decide) ?_
      exact z_zret C hQ rfl dX3_goes_41 h H locs ls hR hS hl
set_option maxHeartbeats 4000000 in
theorem mX3_in {X : zX} {d : Nat} {g : zG} {K : Option Value → zG → Prop} {KX : String → zG → Prop} (hok : zOk X) (x0 : Int32) (x1 : Int32) (x2 : Int32) (h : (x0 < x1 → K (some (.int 0)) g) ∧ (¬ x0 < x1 → (x2 < x0 → K (some (.int 0)) g) ∧ (¬ x2 < x0 → K (some (.int 1)) g))) : zCal X d yX3_in wX3_in [.int x0, .int x1, .int x2] g K KX := by
  refine z_enter hok pn_X3 (Nat.le_of_ble_eq_true rfl) (fun E C hQ => ?_)
  have C : zC X d E RX3 cX3_in 3 (some .boolean) "in" := C
  show GW X E 3 g 0 [(0, .int x0), (1, .int x1), (2, .int x2)] []
  intro H locs ls hR hS hl
  refine lv_iload_n C.x C.b dX3_in_0 rfl (lv_at hl 0 rfl) ?_
  refine lv_iload_n C.x C.b dX3_in_1 rfl (lv_at hl 1 rfl) ?_
  obtain ⟨h1, h2⟩ := h
  refine lv_icmp_lt (tgt := 14) C.x C.b dX3_in_2 (by decide) (fun c => ?_) (fun c => ?_)
  · have h := h1 c; clear h1 h2
    refine lv_iconst (v := 0) C.x C.b dX3_in_14 (by decide) ?_
    exact z_zret C hQ rfl dX3_in_15 h H locs ls hR hS hl
  · have h := h2 c; clear h1 h2
    refine lv_iload_n C.x C.b dX3_in_5 rfl (lv_at hl 0 rfl) ?_
    refine lv_iload_n C.x C.b dX3_in_6 rfl (lv_at hl 2 rfl) ?_
    obtain ⟨h1, h2⟩ := h
    refine lv_icmp_gt (tgt := 14) C.x C.b dX3_in_7 (by decide) (fun c => ?_) (fun c => ?_)
    · have h := h1 c; clear h1 h2
      refine lv_iconst (v := 0) C.x C.b dX3_in_14 (by decide) ?_
      exact z_zret C hQ rfl dX3_in_15 h H locs ls hR hS hl
    · have h := h2 c; clear h1 h2
      refine lv_iconst (v := 1) C.x C.b dX3_in_10 (by decide) ?_
      refine lv_goto (tgt := 15) C.x C.b dX3_in_11 (by decide) ?_
      exact z_zret C hQ rfl dX3_in_15 h H locs ls hR hS hl
theorem hdS_X3_in : yX3_in.cls ≠ "java/lang/invoke/MethodHandle" ∧ yX3_in.cls ≠ "java/lang/invoke/VarHandle" ∧ (parseMethodDescriptor yX3_in.desc).map (fun d => d.parameters.length) = some 3 := by decide +kernel
set_option maxHeartbeats 4000000 in
theorem mX3_isNode {X : zX} {d : Nat} {g : zG} {K : Option Value → zG → Prop} {KX : String → zG → Prop} (hok : zOk X) (x0 : Int32) (h : zCal X d yX3_in wX3_in [.int x0, .int 0, .int 3] g (fun r g_1 => ∃ v_2 : Int32, r = some (.int v_2) ∧ zbo v_2 ∧ zbo v_2 ∧ K (some (.int v_2)) g_1) KX) : zCal X (d + 1) yX3_isNode wX3_isNode [.int x0] g K KX := by
  refine z_enter hok pn_X3 (Nat.le_of_ble_eq_true rfl) (fun E C hQ => ?_)
  have C : zC X (d + 1) E RX3 cX3_isNode 1 (some .boolean) "isNode" := C
  show GW X E 1 g 0 [(0, .int x0)] []
  intro H locs ls hR hS hl
  refine lv_iload_n C.x C.b dX3_isNode_0 rfl (lv_at hl 0 rfl) ?_
  refine lv_iconst (v := 0) C.x C.b dX3_isNode_1 (by decide) ?_
  refine lv_iconst (v := 3) C.x C.b dX3_isNode_2 (by decide) ?_
  refine z_callS C hR hS hl (n := 3) (y := yX3_in) (bytes := cX3_in) (maxL := 3) (rt := (some .boolean)) (As := [.int x0, .int 0, .int 3]) (rest := []) (lw_S q1755 q1756 q82 q1757) hdS_X3_in (by decide) rfl rfl (Nat.le_of_ble_eq_true rfl) dX3_isNode_3 h (fun r g_1 hk_ => ?_) (fun x g1 h => z_out C hQ h)
  clear h; obtain ⟨v_2, rfl, zb_, h⟩ := hk_
  show GW X E 1 g_1 6 [(0, .int x0)] [.int v_2]
  intro H locs ls hR hS hl
  exact z_zret C hQ (zbo_n h.1) dX3_isNode_6 h.2 H locs ls hR hS hl
theorem hdS_X3_isNode : yX3_isNode.cls ≠ "java/lang/invoke/MethodHandle" ∧ yX3_isNode.cls ≠ "java/lang/invoke/VarHandle" ∧ (parseMethodDescriptor yX3_isNode.desc).map (fun d => d.parameters.length) = some 1 := by decide +kernel
theorem hdV_X3_goes : yX3_goes.cls = RX3 ∧ yX3_goes.cls ≠ "java/lang/invoke/MethodHandle" ∧ yX3_goes.cls ≠ "java/lang/invoke/VarHandle" ∧ (parseMethodDescriptor yX3_goes.desc).map (fun d => d.parameters.length) = some 3 := by decide +kernel
set_option maxHeartbeats 4000000 in
theorem mX3_setOffset {X : zX} {d : Nat} {g : zG} {K : Option Value → zG → Prop} {KX : String → zG → Prop} (hok : zOk X) (a0 : Nat) (x1 : Int32) (x2 : Int32) (h : zCal X d yX3_isNode wX3_isNode [.int x1] g (fun r g_1 => ∃ v_2 : Int32, r = some (.int v_2) ∧ zbo v_2 ∧ zCal X d yX3_in wX3_in [.int x2, .int (-1000), .int 1000] g_1 (fun r g_3 => ∃ v_4 : Int32, r = some (.int v_4) ∧ zbo v_4 ∧ zIs g_3 3 a0 ∧ zCal X d yX3_goes wX3_goes [.ref a0, .int v_2, .int v_4, .int 1] g_3 (fun r g_5 => ∃ v_6 : Int32, r = some (.int v_6) ∧ zbo v_6 ∧ (¬ v_6 = 0 → ∃ (fs_7 : List Value) (a_8 : Nat), zGo g_5 3 a0 = some fs_7 ∧ fs_7[0]? = some (.ref a_8) ∧ ∃ (n_9 : Nat) (f_10 : Nat → Int32), zGi g_5 0 a_8 = some (n_9, f_10) ∧ vp_in x1 n_9 ∧ ∀ v_11 : Int32, v_11 = f_10 x1.toNatClampNeg → ∃ (fs_12 : List Value) (a_13 : Nat), zGo g_5 3 a0 = some fs_12 ∧ fs_12[0]? = some (.ref a_13) ∧ ∃ (n_14 : Nat) (f_15 : Nat → Int32), zGi g_5 0 a_13 = some (n_14, f_15) ∧ vp_in x1 n_14 ∧ ∀ g_16 : zG, g_16 = zSi g_5 0 a_13 n_14 (upd f_15 x1.toNatClampNeg x2) → K (some (.int v_11)) g_16) ∧ (v_6 = 0 → K (some (.int 0)) g_5)) KX) KX) KX) : zCal X (d + 1) yX3_setOffset wX3_setOffset [.ref a0, .int x1, .int x2] g K KX := by
  refine z_enter hok pn_X3 (Nat.le_of_ble_eq_true rfl) (fun E C hQ => ?_)
  have C : zC X (d + 1) E RX3 cX3_setOffset 4 (some .int) "setOffset" := C
  show GW X E 4 g 0 [(0, .ref a0), (1, .int x1), (2, .int x2)] []
  intro H locs ls hR hS hl
  refine lv_aload_n C.x C.b dX3_setOffset_0 rfl (lv_at hl 0 rfl) ?_
  refine lv_iload_n C.x C.b dX3_setOffset_1 rfl (lv_at hl 1 rfl) ?_
  refine z_callS C hR hS hl (n := 1) (y := yX3_isNode) (bytes := cX3_isNode) (maxL := 1) (rt := (some .boolean)) (As := [.int x1]) (rest := [.ref a0]) (lw_S q1752 q1753 q82 q1754) hdS_X3_isNode (by decide) rfl rfl (Nat.le_of_ble_eq_true rfl) dX3_setOffset_2 h (fun r g_1 hk_ => ?_) (fun x g1 h => z_out C hQ h)
  clear h; obtain ⟨v_2, rfl, zb_, h⟩ := hk_
  show GW X E 4 g_1 5 [(0, .ref a0), (1, .int x1), (2, .int x2)] [.int v_2, .ref a0]
  intro H locs ls hR hS hl
  refine lv_iload_n C.x C.b dX3_setOffset_5 rfl (lv_at hl 2 rfl) ?_
  refine lv_sipush (v := (-1000)) C.x C.b dX3_setOffset_6 (by decide) ?_
  refine lv_sipush (v := 1000) C.x C.b dX3_setOffset_9 (by decide) ?_
  refine z_callS C hR hS hl (n := 3) (y := yX3_in) (bytes := cX3_in) (maxL := 3) (rt := (some .boolean)) (As := [.int x2, .int (-1000), .int 1000]) (rest := [.int v_2, .ref a0]) (lw_S q1755 q1756 q82 q1757) hdS_X3_in (by decide) rfl rfl (Nat.le_of_ble_eq_true rfl) dX3_setOffset_12 h (fun r g_3 hk_ => ?_) (fun x g1 h => z_out C hQ h)
  clear h; obtain ⟨v_4, rfl, zb_, h⟩ := hk_
  show GW X E 4 g_3 15 [(0, .ref a0), (1, .int x1), (2, .int x2)] [.int v_4, .int v_2, .ref a0]
  intro H locs ls hR hS hl
  refine lv_iconst (v := 1) C.x C.b dX3_setOffset_15 (by decide) ?_
  refine z_callV C hR hS hl (n := 3) (C1 := RX3) (T := TX3) (N := 35) (ci := 3) (y := yX3_goes) (bytes := cX3_goes) (maxL := 4) (rt := (some .boolean)) (As := [.int v_2, .int v_4, .int 1]) (rest := []) h.1 rfl (lw_V q1758 q1760 qs28 q82 q1761) hdV_X3_goes (by decide) rfl rfl (Nat.le_of_ble_eq_true rfl) dX3_setOffset_16 h.2 (fun r g_5 hk_ => ?_) (fun x g1 h => z_out C hQ h)
  clear h; obtain ⟨v_6, rfl, zb_, h⟩ := hk_
  show GW X E 4 g_5 19 [(0, .ref a0), (1, .int x1), (2, .int x2)] [.int v_6]
  intro H locs ls hR hS hl
  obtain ⟨h1, h2⟩ := h
  refine lv_if_ne (tgt := 24) C.x C.b dX3_setOffset_19 (by decide) (fun c => ?_) (fun c => ?_)
  · have h := h1 c; clear h1 h2
    refine lv_aload_n C.x C.b dX3_setOffset_24 rfl (lv_at hl 0 rfl) ?_
    obtain ⟨fs_7, a_8, q1, q2, h⟩ := h
    refine z_get C hR q1 rfl (ci := 3) rfl in_X3 0 (by decide) q1637 (fun _ h => h) q2 dX3_setOffset_25 ?_
    refine lv_iload_n C.x C.b dX3_setOffset_28 rfl (lv_at hl 1 rfl) ?_
    obtain ⟨n_9, f_10, q1, q2, h⟩ := h
    refine z_iald C hR q1 (by decide) q2 dX3_setOffset_29 ?_
    have h := h _ rfl
    generalize f_10 x1.toNatClampNeg = v_11 at h ⊢
    refine lv_istore_n (lv' := [(3, .int v_11), (0, .ref a0), (1, .int x1), (2, .int x2)]) C.x C.b dX3_setOffset_30 rfl hl (by decide) rfl (fun ls hl => ?_)
    refine lv_aload_n C.x C.b dX3_setOffset_31 rfl (lv_at hl 1 rfl) ?_
    obtain ⟨fs_12, a_13, q1, q2, h⟩ := h
    refine z_get C hR q1 rfl (ci := 3) rfl in_X3 0 (by decide) q1637 (fun _ h => h) q2 dX3_setOffset_32 ?_
    refine lv_iload_n C.x C.b dX3_setOffset_35 rfl (lv_at hl 2 rfl) ?_
    refine lv_iload_n C.x C.b dX3_setOffset_36 rfl (lv_at hl 3 rfl) ?_
    obtain ⟨n_14, f_15, q1, q2, h⟩ := h
    refine z_iast C hR hS q1 (by decide) q2 dX3_setOffset_37 (fun H locs hR hS => ?_)
    have h := h _ rfl
    generalize zSi g_5 0 a_13 n_14 (upd f_15 x1.toNatClampNeg x2) = g_16 at h hR
    refine lv_iload_n C.x C.b dX3_setOffset_38 rfl (lv_at hl 0 rfl) ?_
    exact z_iret C hQ dX3_setOffset_39 h H locs ls hR hS hl
  · have h := h2 c; clear h1 h2
    refine lv_iconst (v := 0) C.x C.b dX3_setOffset_22 (by decide) ?_
    exact z_iret C hQ dX3_setOffset_23 h H locs ls hR hS hl
set_option maxHeartbeats 4000000 in
theorem mX3_setPatience {X : zX} {d : Nat} {g : zG} {K : Option Value → zG → Prop} {KX : String → zG → Prop} (hok : zOk X) (a0 : Nat) (x1 : Int32) (h : zCal X d yX3_in wX3_in [.int x1, .int 0, .int 1000] g (fun r g_1 => ∃ v_2 : Int32, r = some (.int v_2) ∧ zbo v_2 ∧ zIs g_1 3 a0 ∧ zCal X d yX3_goes wX3_goes [.ref a0, .int v_2, .int 1, .int 1] g_1 (fun r g_3 => ∃ v_4 : Int32, r = some (.int v_4) ∧ zbo v_4 ∧ (¬ v_4 = 0 → ∃ (fs_5 : List Value) (v_6 : Int32), zGo g_3 3 a0 = some fs_5 ∧ fs_5[1]? = some (.int v_6) ∧ ∃ (fs_7 : List Value), zGo g_3 3 a0 = some fs_7 ∧ 1 < fs_7.length ∧ ∀ g_8 : zG, g_8 = zSo g_3 3 a0 (fs_7.set 1 (.int x1)) → K (some (.int v_6)) g_8) ∧ (v_4 = 0 → K (some (.int 0)) g_3)) KX) KX) : zCal X (d + 1) yX3_setPatience wX3_setPatience [.ref a0, .int x1] g K KX := by
  refine z_enter hok pn_X3 (Nat.le_of_ble_eq_true rfl) (fun E C hQ => ?_)
  have C : zC X (d + 1) E RX3 cX3_setPatience 3 (some .int) "setPatience" := C
  show GW X E 3 g 0 [(0, .ref a0), (1, .int x1)] []
  intro H locs ls hR hS hl
  refine lv_aload_n C.x C.b dX3_setPatience_0 rfl (lv_at hl 0 rfl) ?_
  refine lv_iload_n C.x C.b dX3_setPatience_1 rfl (lv_at hl 1 rfl) ?_
  refine lv_iconst (v := 0) C.x C.b dX3_setPatience_2 (by decide) ?_
  refine lv_sipush (v := 1000) C.x C.b dX3_setPatience_3 (by decide) ?_
  refine z_callS C hR hS hl (n := 3) (y := yX3_in) (bytes := cX3_in) (maxL := 3) (rt := (some .boolean)) (As := [.int x1, .int 0, .int 1000]) (rest := [.ref a0]) (lw_S q1755 q1756 q82 q1757) hdS_X3_in (by decide) rfl rfl (Nat.le_of_ble_eq_true rfl) dX3_setPatience_6 h (fun r g_1 hk_ => ?_) (fun x g1 h => z_out C hQ h)
  clear h; obtain ⟨v_2, rfl, zb_, h⟩ := hk_
  show GW X E 3 g_1 9 [(0, .ref a0), (1, .int x1)] [.int v_2, .ref a0]
  intro H locs ls hR hS hl
  refine lv_iconst (v := 1) C.x C.b dX3_setPatience_9 (by decide) ?_
  refine lv_iconst (v := 1) C.x C.b dX3_setPatience_10 (by decide) ?_
  refine z_callV C hR hS hl (n := 3) (C1 := RX3) (T := TX3) (N := 35) (ci := 3) (y := yX3_goes) (bytes := cX3_goes) (maxL := 4) (rt := (some .boolean)) (As := [.int v_2, .int 1, .int 1]) (rest := []) h.1 rfl (lw_V q1758 q1760 qs28 q82 q1761) hdV_X3_goes (by decide) rfl rfl (Nat.le_of_ble_eq_true rfl) dX3_setPatience_11 h.2 (fun r g_3 hk_ => ?_) (fun x g1 h => z_out C hQ h)
  clear h; obtain ⟨v_4, rfl, zb_, h⟩ := hk_
  show GW X E 3 g_3 14 [(0, .ref a0), (1, .int x1)] [.int v_4]
  intro H locs ls hR hS hl
  obtain ⟨h1, h2⟩ := h
  refine lv_if_ne (tgt := 19) C.x C.b dX3_setPatience_14 (by decide) (fun c => ?_) (fun c => ?_)
  · have h := h1 c; clear h1 h2
    refine lv_aload_n C.x C.b dX3_setPatience_19 rfl (lv_at hl 0 rfl) ?_
    obtain ⟨fs_5, v_6, q1, q2, h⟩ := h
    refine z_get C hR q1 rfl (ci := 3) rfl in_X3 1 (by decide) q1638 (fun _ h => h) q2 dX3_setPatience_20 ?_
    refine lv_istore_n (lv' := [(2, .int v_6), (0, .ref a0), (1, .int x1)]) C.x C.b dX3_setPatience_23 rfl hl (by decide) rfl (fun ls hl => ?_)
    refine lv_aload_n C.x C.b dX3_setPatience_24 rfl (lv_at hl 1 rfl) ?_
    refine lv_iload_n C.x C.b dX3_setPatience_25 rfl (lv_at hl 2 rfl) ?_
    obtain ⟨fs_7, q1, q2, h⟩ := h
    refine z_put C hR hS q1 rfl (ci := 3) rfl in_X3 tyX3 tyX3_ok nmX3 1 (by decide) q1638 (fun _ h => h) rfl ⟨rfl, rfl⟩ q2 dX3_setPatience_26 (fun H locs hR hS => ?_)
    have h := h _ rfl
    generalize zSo g_3 3 a0 (fs_7.set 1 (.int x1)) = g_8 at h hR
    refine lv_iload_n C.x C.b dX3_setPatience_29 rfl (lv_at hl 0 rfl) ?_
    exact z_iret C hQ dX3_setPatience_30 h H locs ls hR hS hl
  · have h := h2 c; clear h1 h2
    refine lv_iconst (v := 0) C.x C.b dX3_setPatience_17 (by decide) ?_
    exact z_iret C hQ dX3_setPatience_18 h H locs ls hR hS hl
set_option maxHeartbeats 4000000 in
theorem mX3_isKind {X : zX} {d : Nat} {g : zG} {K : Option Value → zG → Prop} {KX : String → zG → Prop} (hok : zOk X) (x0 : Int32) (h : zCal X d yX3_in wX3_in [.int x0, .int 0, .int 7] g (fun r g_1 => ∃ v_2 : Int32, r = some (.int v_2) ∧ zbo v_2 ∧ zbo v_2 ∧ K (some (.int v_2)) g_1) KX) : zCal X (d + 1) yX3_isKind wX3_isKind [.int x0] g K KX := by
  refine z_enter hok pn_X3 (Nat.le_of_ble_eq_true rfl) (fun E C hQ => ?_)
  have C : zC X (d + 1) E RX3 cX3_isKind 1 (some .boolean) "isKind" := C
  show GW X E 1 g 0 [(0, .int x0)] []
  intro H locs ls hR hS hl
  refine lv_iload_n C.x C.b dX3_isKind_0 rfl (lv_at hl 0 rfl) ?_
  refine lv_iconst (v := 0) C.x C.b dX3_isKind_1 (by decide) ?_
  refine lv_bipush (v := 7) C.x C.b dX3_isKind_2 (by decide) ?_
  refine z_callS C hR hS hl (n := 3) (y := yX3_in) (bytes := cX3_in) (maxL := 3) (rt := (some .boolean)) (As := [.int x0, .int 0, .int 7]) (rest := []) (lw_S q1755 q1756 q82 q1757) hdS_X3_in (by decide) rfl rfl (Nat.le_of_ble_eq_true rfl) dX3_isKind_4 h (fun r g_1 hk_ => ?_) (fun x g1 h => z_out C hQ h)
  clear h; obtain ⟨v_2, rfl, zb_, h⟩ := hk_
  show GW X E 1 g_1 7 [(0, .int x0)] [.int v_2]
  intro H locs ls hR hS hl
  exact z_zret C hQ (zbo_n h.1) dX3_isKind_7 h.2 H locs ls hR hS hl
theorem hdS_X3_isKind : yX3_isKind.cls ≠ "java/lang/invoke/MethodHandle" ∧ yX3_isKind.cls ≠ "java/lang/invoke/VarHandle" ∧ (parseMethodDescriptor yX3_isKind.desc).map (fun d => d.parameters.length) = some 1 := by decide +kernel
set_option maxHeartbeats 4000000 in
theorem bX3_canCome_49 {X : zX} {d : Nat} {E : zM} {K : Option Value → zG → Prop} {KX : String → zG → Prop} (C : zC X (d + 1) E RX3 cX3_canCome 8 (some .boolean) "canCome") (hQ : zQ X E K KX) (g : zG) (a0 : Nat) (x1 : Int32) (x2 : Int32) (h : GW X E 8 g 50 [(0, .ref a0), (1, .int x1), (2, .int x2)] [.int 0]) : GW X E 8 g 49 [(0, .ref a0), (1, .int x1), (2, .int x2)] [] := by
  intro H locs ls hR hS hl
  refine lv_iconst (v := 0) C.x C.b dX3_canCome_49 (by decide) ?_
  exact h H locs ls hR hS (lv_sub hl [0, 1, 2] rfl)
set_option maxHeartbeats 4000000 in
theorem bX3_canCome_50 {X : zX} {d : Nat} {E : zM} {K : Option Value → zG → Prop} {KX : String → zG → Prop} (C : zC X (d + 1) E RX3 cX3_canCome 8 (some .boolean) "canCome") (hQ : zQ X E K KX) (g : zG) (a0 : Nat) (x1 : Int32) (x2 : Int32) (t0 : Int32) (h : zCal X d yX3_isNode wX3_isNode [.int x1] g (fun r g_1 => ∃ v_2 : Int32, r = some (.int v_2) ∧ zbo v_2 ∧ (v_2 = 0 → zIs g_1 3 a0 ∧ zCal X d yX3_goes wX3_goes [.ref a0, .int v_2, .int t0, .int 0] g_1 (fun r g_3 => ∃ v_4 : Int32, r = some (.int v_4) ∧ zbo v_4 ∧ zbo v_4 ∧ K (some (.int v_4)) g_3) KX) ∧ (¬ v_2 = 0 → ∃ (fs_5 : List Value) (v_6 : Int32), zGo g_1 3 a0 = some fs_5 ∧ fs_5[2]? = some (.int v_6) ∧ (¬ v_6 = 0 → zIs g_1 3 a0 ∧ zCal X d yX3_goes wX3_goes [.ref a0, .int v_2, .int t0, .int 0] g_1 (fun r g_7 => ∃ v_8 : Int32, r = some (.int v_8) ∧ zbo v_8 ∧ zbo v_8 ∧ K (some (.int v_8)) g_7) KX) ∧ (v_6 = 0 → ∃ (fs_9 : List Value) (v_10 : Int32), zGo g_1 3 a0 = some fs_9 ∧ fs_9[3]? = some (.int v_10) ∧ (80 ≤ v_10 → zIs g_1 3 a0 ∧ zCal X d yX3_goes wX3_goes [.ref a0, .int v_2, .int t0, .int 0] g_1 (fun r g_11 => ∃ v_12 : Int32, r = some (.int v_12) ∧ zbo v_12 ∧ zbo v_12 ∧ K (some (.int v_12)) g_11) KX) ∧ (¬ 80 ≤ v_10 → ∃ (fs_13 : List Value) (v_14 : Int32), zGo g_1 3 a0 = some fs_13 ∧ fs_13[5]? = some (.int v_14) ∧ ∃ (fs_15 : List Value) (a_16 : Nat), zGo g_1 3 a0 = some fs_15 ∧ fs_15[0]? = some (.ref a_16) ∧ ∃ (n_17 : Nat) (f_18 : Nat → Int32), zGi g_1 0 a_16 = some (n_17, f_18) ∧ vp_in x1 n_17 ∧ ∀ v_19 : Int32, v_19 = f_18 x1.toNatClampNeg → ∃ (fs_20 : List Value) (v_21 : Int32), zGo g_1 3 a0 = some fs_20 ∧ fs_20[1]? = some (.int v_21) ∧ (v_21 < ((v_14 - x2) - v_19) → zIs g_1 3 a0 ∧ zCal X d yX3_goes wX3_goes [.ref a0, .int v_2, .int t0, .int 0] g_1 (fun r g_22 => ∃ v_23 : Int32, r = some (.int v_23) ∧ zbo v_23 ∧ zbo v_23 ∧ K (some (.int v_23)) g_22) KX) ∧ (¬ v_21 < ((v_14 - x2) - v_19) → zIs g_1 3 a0 ∧ zCal X d yX3_goes wX3_goes [.ref a0, .int v_2, .int t0, .int 1] g_1 (fun r g_24 => ∃ v_25 : Int32, r = some (.int v_25) ∧ zbo v_25 ∧ zbo v_25 ∧ K (some (.int v_25)) g_24) KX))))) KX) : GW X E 8 g 50 [(0, .ref a0), (1, .int x1), (2, .int x2)] [.int t0] := by
  intro H locs ls hR hS hl
  refine lv_istore (lv' := [(6, .int t0), (0, .ref a0), (1, .int x1), (2, .int x2)]) C.x C.b dX3_canCome_50 hl (by decide) rfl (fun ls hl => ?_)
  refine lv_iload_n C.x C.b dX3_canCome_52 rfl (lv_at hl 2 rfl) ?_
  refine z_callS C hR hS hl (n := 1) (y := yX3_isNode) (bytes := cX3_isNode) (maxL := 1) (rt := (some .boolean)) (As := [.int x1]) (rest := []) (lw_S q1752 q1753 q82 q1754) hdS_X3_isNode (by decide) rfl rfl (Nat.le_of_ble_eq_true rfl) dX3_canCome_53 h (fun r g_1 hk_ => ?_) (fun x g1 h => z_out C hQ h)
  clear h; obtain ⟨v_2, rfl, zb_, h⟩ := hk_
  show GW X E 8 g_1 56 [(6, .int t0), (0, .ref a0), (1, .int x1), (2, .int x2)] [.int v_2]
  intro H locs ls hR hS hl
  refine lv_istore (lv' := [(7, .int v_2), (6, .int t0), (0, .ref a0), (1, .int x1), (2, .int x2)]) C.x C.b dX3_canCome_56 hl (by decide) rfl (fun ls hl => ?_)
  refine lv_aload_n C.x C.b dX3_canCome_58 rfl (lv_at hl 2 rfl) ?_
  refine lv_iload C.x C.b dX3_canCome_59 (lv_at hl 0 rfl) ?_
  refine lv_iload C.x C.b dX3_canCome_61 (lv_at hl 1 rfl) ?_
  refine lv_iload C.x C.b dX3_canCome_63 (lv_at hl 0 rfl) ?_
  obtain ⟨h1, h2⟩ := h
  refine lv_if_eq (tgt := 108) C.x C.b dX3_canCome_65 (by decide) (fun c => ?_) (fun c => ?_)
  · have h := h1 c; clear h1 h2
    refine lv_iconst (v := 0) C.x C.b dX3_canCome_108 (by decide) ?_
    refine z_callV C hR hS hl (n := 3) (C1 := RX3) (T := TX3) (N := 35) (ci := 3) (y := yX3_goes) (bytes := cX3_goes) (maxL := 4) (rt := (some .boolean)) (As := [.int v_2, .int t0, .int 0]) (rest := []) h.1 rfl (lw_V q1758 q1760 qs28 q82 q1761) hdV_X3_goes (by decide) rfl rfl (Nat.le_of_ble_eq_true rfl) dX3_canCome_109 h.2 (fun r g_3 hk_ => ?_) (fun x g1 h => z_out C hQ h)
    clear h; obtain ⟨v_4, rfl, zb_, h⟩ := hk_
    show GW X E 8 g_3 112 [(7, .int v_2), (6, .int t0), (0, .ref a0), (1, .int x1), (2, .int x2)] [.int v_4]
    intro H locs ls hR hS hl
    exact z_zret C hQ (zbo_n h.1) dX3_canCome_112 h.2 H locs ls hR hS hl
  · have h := h2 c; clear h1 h2
    refine lv_aload_n C.x C.b dX3_canCome_68 rfl (lv_at hl 2 rfl) ?_
    obtain ⟨fs_5, v_6, q1, q2, h⟩ := h
    refine z_get C hR q1 rfl (ci := 3) rfl in_X3 2 (by decide) q1639 (fun _ h => h) q2 dX3_canCome_69 ?_
    obtain ⟨h1, h2⟩ := h
    refine lv_if_ne (tgt := 108) C.x C.b dX3_canCome_72 (by decide) (fun c => ?_) (fun c => ?_)
    · have h := h1 c; clear h1 h2
      refine lv_iconst (v := 0) C.x C.b dX3_canCome_108 (by decide) ?_
      refine z_callV C hR hS hl (n := 3) (C1 := RX3) (T := TX3) (N := 35) (ci := 3) (y := yX3_goes) (bytes := cX3_goes) (maxL := 4) (rt := (some .boolean)) (As := [.int v_2, .int t0, .int 0]) (rest := []) h.1 rfl (lw_V q1758 q1760 qs28 q82 q1761) hdV_X3_goes (by decide) rfl rfl (Nat.le_of_ble_eq_true rfl) dX3_canCome_109 h.2 (fun r g_7 hk_ => ?_) (fun x g1 h => z_out C hQ h)
      clear h; obtain ⟨v_8, rfl, zb_, h⟩ := hk_
      show GW X E 8 g_7 112 [(7, .int v_2), (6, .int t0), (0, .ref a0), (1, .int x1), (2, .int x2)] [.int v_8]
      intro H locs ls hR hS hl
      exact z_zret C hQ (zbo_n h.1) dX3_canCome_112 h.2 H locs ls hR hS hl
    · have h := h2 c; clear h1 h2
      refine lv_aload_n C.x C.b dX3_canCome_75 rfl (lv_at hl 2 rfl) ?_
      obtain ⟨fs_9, v_10, q1, q2, h⟩ := h
      refine z_get C hR q1 rfl (ci := 3) rfl in_X3 3 (by decide) q1640 (fun _ h => h) q2 dX3_canCome_76 ?_
      refine lv_bipush (v := 80) C.x C.b dX3_canCome_79 (by decide) ?_
      obtain ⟨h1, h2⟩ := h
      refine lv_icmp_ge (tgt := 108) C.x C.b dX3_canCome_81 (by decide) (fun c => ?_) (fun c => ?_)
      · have h := h1 c; clear h1 h2
        refine lv_iconst (v := 0) C.x C.b dX3_canCome_108 (by decide) ?_
        refine z_callV C hR hS hl (n := 3) (C1 := RX3) (T := TX3) (N := 35) (ci := 3) (y := yX3_goes) (bytes := cX3_goes) (maxL := 4) (rt := (some .boolean)) (As := [.int v_2, .int t0, .int 0]) (rest := []) h.1 rfl (lw_V q1758 q1760 qs28 q82 q1761) hdV_X3_goes (by decide) rfl rfl (Nat.le_of_ble_eq_true rfl) dX3_canCome_109 h.2 (fun r g_11 hk_ => ?_) (fun x g1 h => z_out C hQ h)
        clear h; obtain ⟨v_12, rfl, zb_, h⟩ := hk_
        show GW X E 8 g_11 112 [(7, .int v_2), (6, .int t0), (0, .ref a0), (1, .int x1), (2, .int x2)] [.int v_12]
        intro H locs ls hR hS hl
        exact z_zret C hQ (zbo_n h.1) dX3_canCome_112 h.2 H locs ls hR hS hl
      · have h := h2 c; clear h1 h2
        refine lv_aload_n C.x C.b dX3_canCome_84 rfl (lv_at hl 2 rfl) ?_
        obtain ⟨fs_13, v_14, q1, q2, h⟩ := h
        refine z_get C hR q1 rfl (ci := 3) rfl in_X3 5 (by decide) q1642 (fun _ h => h) q2 dX3_canCome_85 ?_
        refine lv_iload_n C.x C.b dX3_canCome_88 rfl (lv_at hl 4 rfl) ?_
        refine lv_isub C.x C.b dX3_canCome_89 ?_
        refine lv_aload_n C.x C.b dX3_canCome_90 rfl (lv_at hl 2 rfl) ?_
        obtain ⟨fs_15, a_16, q1, q2, h⟩ := h
        refine z_get C hR q1 rfl (ci := 3) rfl in_X3 0 (by decide) q1637 (fun _ h => h) q2 dX3_canCome_91 ?_
        refine lv_iload_n C.x C.b dX3_canCome_94 rfl (lv_at hl 3 rfl) ?_
        obtain ⟨n_17, f_18, q1, q2, h⟩ := h
        refine z_iald C hR q1 (by decide) q2 dX3_canCome_95 ?_
        have h := h _ rfl
        generalize f_18 x1.toNatClampNeg = v_19 at h ⊢
        refine lv_isub C.x C.b dX3_canCome_96 ?_
        refine lv_aload_n C.x C.b dX3_canCome_97 rfl (lv_at hl 2 rfl) ?_
        obtain ⟨fs_20, v_21, q1, q2, h⟩ := h
        refine z_get C hR q1 rfl (ci := 3) rfl in_X3 1 (by decide) q1638 (fun _ h => h) q2 dX3_canCome_98 ?_
        obtain ⟨h1, h2⟩ := h
        refine lv_icmp_gt (tgt := 108) C.x C.b dX3_canCome_101 (by decide) (fun c => ?_) (fun c => ?_)
        · have h := h1 c; clear h1 h2
          refine lv_iconst (v := 0) C.x C.b dX3_canCome_108 (by decide) ?_
          refine z_callV C hR hS hl (n := 3) (C1 := RX3) (T := TX3) (N := 35) (ci := 3) (y := yX3_goes) (bytes := cX3_goes) (maxL := 4) (rt := (some .boolean)) (As := [.int v_2, .int t0, .int 0]) (rest := []) h.1 rfl (lw_V q1758 q1760 qs28 q82 q1761) hdV_X3_goes (by decide) rfl rfl (Nat.le_of_ble_eq_true rfl) dX3_canCome_109 h.2 (fun r g_22 hk_ => ?_) (fun x g1 h => z_out C hQ h)
          clear h; obtain ⟨v_23, rfl, zb_, h⟩ := hk_
          show GW X E 8 g_22 112 [(7, .int v_2), (6, .int t0), (0, .ref a0), (1, .int x1), (2, .int x2)] [.int v_23]
          intro H locs ls hR hS hl
          exact z_zret C hQ (zbo_n h.1) dX3_canCome_112 h.2 H locs ls hR hS hl
        · have h := h2 c; clear h1 h2
          refine lv_iconst (v := 1) C.x C.b dX3_canCome_104 (by decide) ?_
          refine lv_goto (tgt := 109) C.x C.b dX3_canCome_105 (by decide) ?_
          refine z_callV C hR hS hl (n := 3) (C1 := RX3) (T := TX3) (N := 35) (ci := 3) (y := yX3_goes) (bytes := cX3_goes) (maxL := 4) (rt := (some .boolean)) (As := [.int v_2, .int t0, .int 1]) (rest := []) h.1 rfl (lw_V q1758 q1760 qs28 q82 q1761) hdV_X3_goes (by decide) rfl rfl (Nat.le_of_ble_eq_true rfl) dX3_canCome_109 h.2 (fun r g_24 hk_ => ?_) (fun x g1 h => z_out C hQ h)
          clear h; obtain ⟨v_25, rfl, zb_, h⟩ := hk_
          show GW X E 8 g_24 112 [(7, .int v_2), (6, .int t0), (0, .ref a0), (1, .int x1), (2, .int x2)] [.int v_25]
          intro H locs ls hR hS hl
          exact z_zret C hQ (zbo_n h.1) dX3_canCome_112 h.2 H locs ls hR hS hl
set_option maxHeartbeats 4000000 in
theorem mX3_canCome {X : zX} {d : Nat} {g : zG} {K : Option Value → zG → Prop} {KX : String → zG → Prop} (hok : zOk X) (a0 : Nat) (x1 : Int32) (x2 : Int32) (x3 : Int32) (x4 : Int32) (x5 : Int32) (h : ∀ E : zM, zC X (d + 1) E RX3 cX3_canCome 8 (some .boolean) "canCome" → zQ X E K KX → zCal X d yX3_in wX3_in [.int x2, .int 1000, .int 10000] g (fun r g_1 => ∃ v_2 : Int32, r = some (.int v_2) ∧ zbo v_2 ∧ (v_2 = 0 → GW X E 8 g_1 49 [(0, .ref a0), (1, .int x1), (2, .int x2)] []) ∧ (¬ v_2 = 0 → zCal X d yX3_isKind wX3_isKind [.int x3] g_1 (fun r g_3 => ∃ v_4 : Int32, r = some (.int v_4) ∧ zbo v_4 ∧ (v_4 = 0 → GW X E 8 g_3 49 [(0, .ref a0), (1, .int x1), (2, .int x2)] []) ∧ (¬ v_4 = 0 → zCal X d yX3_in wX3_in [.int x4, .int (-1), .int 9] g_3 (fun r g_5 => ∃ v_6 : Int32, r = some (.int v_6) ∧ zbo v_6 ∧ (v_6 = 0 → GW X E 8 g_5 49 [(0, .ref a0), (1, .int x1), (2, .int x2)] []) ∧ (¬ v_6 = 0 → zCal X d yX3_in wX3_in [.int x5, .int (-1000), .int 1000] g_5 (fun r g_7 => ∃ v_8 : Int32, r = some (.int v_8) ∧ zbo v_8 ∧ (v_8 = 0 → GW X E 8 g_7 49 [(0, .ref a0), (1, .int x1), (2, .int x2)] []) ∧ (¬ v_8 = 0 → GW X E 8 g_7 50 [(0, .ref a0), (1, .int x1), (2, .int x2)] [.int 1])) KX)) KX)) KX)) KX) : zCal X (d + 1) yX3_canCome wX3_canCome [.ref a0, .int x1, .int x2, .int x3, .int x4, .int x5] g K KX := by
  refine z_enter hok pn_X3 (Nat.le_of_ble_eq_true rfl) (fun E C hQ => ?_)
  have C : zC X (d + 1) E RX3 cX3_canCome 8 (some .boolean) "canCome" := C
  have h := h E C hQ
  show GW X E 8 g 0 [(0, .ref a0), (1, .int x1), (2, .int x2), (3, .int x3), (4, .int x4), (5, .int x5)] []
  intro H locs ls hR hS hl
  refine lv_iload_n C.x C.b dX3_canCome_0 rfl (lv_at hl 2 rfl) ?_
  refine lv_sipush (v := 1000) C.x C.b dX3_canCome_1 (by decide) ?_
  refine lv_sipush (v := 10000) C.x C.b dX3_canCome_4 (by decide) ?_
  refine z_callS C hR hS hl (n := 3) (y := yX3_in) (bytes := cX3_in) (maxL := 3) (rt := (some .boolean)) (As := [.int x2, .int 1000, .int 10000]) (rest := []) (lw_S q1755 q1756 q82 q1757) hdS_X3_in (by decide) rfl rfl (Nat.le_of_ble_eq_true rfl) dX3_canCome_7 h (fun r g_1 hk_ => ?_) (fun x g1 h => z_out C hQ h)
  clear h; obtain ⟨v_2, rfl, zb_, h⟩ := hk_
  show GW X E 8 g_1 10 [(0, .ref a0), (1, .int x1), (2, .int x2), (3, .int x3), (4, .int x4), (5, .int x5)] [.int v_2]
  intro H locs ls hR hS hl
  obtain ⟨h1, h2⟩ := h
  refine lv_if_eq (tgt := 49) C.x C.b dX3_canCome_10 (by decide) (fun c => ?_) (fun c => ?_)
  · have h := h1 c; clear h1 h2
    exact h H locs ls hR hS (lv_sub hl [0, 1, 2] rfl)
  · have h := h2 c; clear h1 h2
    refine lv_iload_n C.x C.b dX3_canCome_13 rfl (lv_at hl 3 rfl) ?_
    refine z_callS C hR hS hl (n := 1) (y := yX3_isKind) (bytes := cX3_isKind) (maxL := 1) (rt := (some .boolean)) (As := [.int x3]) (rest := []) (lw_S q1774 q1775 q82 q1776) hdS_X3_isKind (by decide) rfl rfl (Nat.le_of_ble_eq_true rfl) dX3_canCome_14 h (fun r g_3 hk_ => ?_) (fun x g1 h => z_out C hQ h)
    clear h; obtain ⟨v_4, rfl, zb_, h⟩ := hk_
    show GW X E 8 g_3 17 [(0, .ref a0), (1, .int x1), (2, .int x2), (3, .int x3), (4, .int x4), (5, .int x5)] [.int v_4]
    intro H locs ls hR hS hl
    obtain ⟨h1, h2⟩ := h
    refine lv_if_eq (tgt := 49) C.x C.b dX3_canCome_17 (by decide) (fun c => ?_) (fun c => ?_)
    · have h := h1 c; clear h1 h2
      exact h H locs ls hR hS (lv_sub hl [0, 1, 2] rfl)
    · have h := h2 c; clear h1 h2
      refine lv_iload C.x C.b dX3_canCome_20 (lv_at hl 4 rfl) ?_
      refine lv_iconst (v := (-1)) C.x C.b dX3_canCome_22 (by decide) ?_
      refine lv_bipush (v := 9) C.x C.b dX3_canCome_23 (by decide) ?_
      refine z_callS C hR hS hl (n := 3) (y := yX3_in) (bytes := cX3_in) (maxL := 3) (rt := (some .boolean)) (As := [.int x4, .int (-1), .int 9]) (rest := []) (lw_S q1755 q1756 q82 q1757) hdS_X3_in (by decide) rfl rfl (Nat.le_of_ble_eq_true rfl) dX3_canCome_25 h (fun r g_5 hk_ => ?_) (fun x g1 h => z_out C hQ h)
      clear h; obtain ⟨v_6, rfl, zb_, h⟩ := hk_
      show GW X E 8 g_5 28 [(0, .ref a0), (1, .int x1), (2, .int x2), (3, .int x3), (4, .int x4), (5, .int x5)] [.int v_6]
      intro H locs ls hR hS hl
      obtain ⟨h1, h2⟩ := h
      refine lv_if_eq (tgt := 49) C.x C.b dX3_canCome_28 (by decide) (fun c => ?_) (fun c => ?_)
      · have h := h1 c; clear h1 h2
        exact h H locs ls hR hS (lv_sub hl [0, 1, 2] rfl)
      · have h := h2 c; clear h1 h2
        refine lv_iload C.x C.b dX3_canCome_31 (lv_at hl 5 rfl) ?_
        refine lv_sipush (v := (-1000)) C.x C.b dX3_canCome_33 (by decide) ?_
        refine lv_sipush (v := 1000) C.x C.b dX3_canCome_36 (by decide) ?_
        refine z_callS C hR hS hl (n := 3) (y := yX3_in) (bytes := cX3_in) (maxL := 3) (rt := (some .boolean)) (As := [.int x5, .int (-1000), .int 1000]) (rest := []) (lw_S q1755 q1756 q82 q1757) hdS_X3_in (by decide) rfl rfl (Nat.le_of_ble_eq_true rfl) dX3_canCome_39 h (fun r g_7 hk_ => ?_) (fun x g1 h => z_out C hQ h)
        clear h; obtain ⟨v_8, rfl, zb_, h⟩ := hk_
        show GW X E 8 g_7 42 [(0, .ref a0), (1, .int x1), (2, .int x2), (3, .int x3), (4, .int x4), (5, .int x5)] [.int v_8]
        intro H locs ls hR hS hl
        obtain ⟨h1, h2⟩ := h
        refine lv_if_eq (tgt := 49) C.x C.b dX3_canCome_42 (by decide) (fun c => ?_) (fun c => ?_)
        · have h := h1 c; clear h1 h2
          exact h H locs ls hR hS (lv_sub hl [0, 1, 2] rfl)
        · have h := h2 c; clear h1 h2
          refine lv_iconst (v := 1) C.x C.b dX3_canCome_45 (by decide) ?_
          refine lv_goto (tgt := 50) C.x C.b dX3_canCome_46 (by decide) ?_
          exact h H locs ls hR hS (lv_sub hl [0, 1, 2] rfl)
set_option maxHeartbeats 4000000 in
theorem bX3_comes_92 {X : zX} {d : Nat} {E : zM} {K : Option Value → zG → Prop} {KX : String → zG → Prop} (C : zC X d E RX3 cX3_comes 8 none "comes") (hQ : zQ X E K KX) (g : zG) (a0 : Nat) (x1 : Int32) (x6 : Int32) (x7 : Int32) (h : (x7 ≤ 0 → GW X E 8 g 175 [(0, .ref a0), (6, .int x6), (7, .int x7)] []) ∧ (¬ x7 ≤ 0 → ∃ (fs_1 : List Value) (a_2 : Nat), zGo g 3 a0 = some fs_1 ∧ fs_1[7]? = some (.ref a_2) ∧ ∃ (fs_3 : List Value) (a_4 : Nat), zGo g 3 a0 = some fs_3 ∧ fs_3[12]? = some (.ref a_4) ∧ ∃ (n_5 : Nat) (f_6 : Nat → Int32), zGi g 12 a_4 = some (n_5, f_6) ∧ vp_in (x7 - 1) n_5 ∧ ∀ v_7 : Int32, v_7 = f_6 (x7 - 1).toNatClampNeg → ∃ (n_8 : Nat) (f_9 : Nat → Int32), zGi g 7 a_2 = some (n_8, f_9) ∧ vp_in v_7 n_8 ∧ ∀ v_10 : Int32, v_10 = f_9 v_7.toNatClampNeg → (x6 < v_10 → ∃ (fs_11 : List Value) (a_12 : Nat), zGo g 3 a0 = some fs_11 ∧ fs_11[12]? = some (.ref a_12) ∧ ∃ (fs_13 : List Value) (a_14 : Nat), zGo g 3 a0 = some fs_13 ∧ fs_13[12]? = some (.ref a_14) ∧ ∃ (n_15 : Nat) (f_16 : Nat → Int32), zGi g 12 a_14 = some (n_15, f_16) ∧ vp_in (x7 - 1) n_15 ∧ ∀ v_17 : Int32, v_17 = f_16 (x7 - 1).toNatClampNeg → ∃ (n_18 : Nat) (f_19 : Nat → Int32), zGi g 12 a_12 = some (n_18, f_19) ∧ vp_in x7 n_18 ∧ ∀ g_20 : zG, g_20 = zSi g 12 a_12 n_18 (upd f_19 x7.toNatClampNeg v_17) → GW X E 8 g_20 92 [(0, .ref a0), (1, .int x1), (6, .int x6), (7, .int (x7 + (-1)))] []) ∧ (¬ x6 < v_10 → ∃ (fs_21 : List Value) (a_22 : Nat), zGo g 3 a0 = some fs_21 ∧ fs_21[7]? = some (.ref a_22) ∧ ∃ (fs_23 : List Value) (a_24 : Nat), zGo g 3 a0 = some fs_23 ∧ fs_23[12]? = some (.ref a_24) ∧ ∃ (n_25 : Nat) (f_26 : Nat → Int32), zGi g 12 a_24 = some (n_25, f_26) ∧ vp_in (x7 - 1) n_25 ∧ ∀ v_27 : Int32, v_27 = f_26 (x7 - 1).toNatClampNeg → ∃ (n_28 : Nat) (f_29 : Nat → Int32), zGi g 7 a_22 = some (n_28, f_29) ∧ vp_in v_27 n_28 ∧ ∀ v_30 : Int32, v_30 = f_29 v_27.toNatClampNeg → (¬ v_30 = x6 → GW X E 8 g 175 [(0, .ref a0), (6, .int x6), (7, .int x7)] []) ∧ (v_30 = x6 → ∃ (fs_31 : List Value) (a_32 : Nat), zGo g 3 a0 = some fs_31 ∧ fs_31[6]? = some (.ref a_32) ∧ ∃ (fs_33 : List Value) (a_34 : Nat), zGo g 3 a0 = some fs_33 ∧ fs_33[12]? = some (.ref a_34) ∧ ∃ (n_35 : Nat) (f_36 : Nat → Int32), zGi g 12 a_34 = some (n_35, f_36) ∧ vp_in (x7 - 1) n_35 ∧ ∀ v_37 : Int32, v_37 = f_36 (x7 - 1).toNatClampNeg → ∃ (n_38 : Nat) (f_39 : Nat → Int32), zGi g 6 a_32 = some (n_38, f_39) ∧ vp_in v_37 n_38 ∧ ∀ v_40 : Int32, v_40 = f_39 v_37.toNatClampNeg → (v_40 ≤ x1 → GW X E 8 g 175 [(0, .ref a0), (6, .int x6), (7, .int x7)] []) ∧ (¬ v_40 ≤ x1 → ∃ (fs_41 : List Value) (a_42 : Nat), zGo g 3 a0 = some fs_41 ∧ fs_41[12]? = some (.ref a_42) ∧ ∃ (fs_43 : List Value) (a_44 : Nat), zGo g 3 a0 = some fs_43 ∧ fs_43[12]? = some (.ref a_44) ∧ ∃ (n_45 : Nat) (f_46 : Nat → Int32), zGi g 12 a_44 = some (n_45, f_46) ∧ vp_in (x7 - 1) n_45 ∧ ∀ v_47 : Int32, v_47 = f_46 (x7 - 1).toNatClampNeg → ∃ (n_48 : Nat) (f_49 : Nat → Int32), zGi g 12 a_42 = some (n_48, f_49) ∧ vp_in x7 n_48 ∧ ∀ g_50 : zG, g_50 = zSi g 12 a_42 n_48 (upd f_49 x7.toNatClampNeg v_47) → GW X E 8 g_50 92 [(0, .ref a0), (1, .int x1), (6, .int x6), (7, .int (x7 + (-1)))] []))))) : GW X E 8 g 92 [(0, .ref a0), (1, .int x1), (6, .int x6), (7, .int x7)] [] := by
  intro H locs ls hR hS hl
  refine lv_iload C.x C.b dX3_comes_92 (lv_at hl 3 rfl) ?_
  obtain ⟨h1, h2⟩ := h
  refine lv_if_le (tgt := 175) C.x C.b dX3_comes_94 (by decide) (fun c => ?_) (fun c => ?_)
  · have h := h1 c; clear h1 h2
    exact h H locs ls hR hS (lv_sub hl [0, 2, 3] rfl)
  · have h := h2 c; clear h1 h2
    refine lv_aload_n C.x C.b dX3_comes_97 rfl (lv_at hl 0 rfl) ?_
    obtain ⟨fs_1, a_2, q1, q2, h⟩ := h
    refine z_get C hR q1 rfl (ci := 3) rfl in_X3 7 (by decide) q1644 (fun _ h => h) q2 dX3_comes_98 ?_
    refine lv_aload_n C.x C.b dX3_comes_101 rfl (lv_at hl 0 rfl) ?_
    obtain ⟨fs_3, a_4, q1, q2, h⟩ := h
    refine z_get C hR q1 rfl (ci := 3) rfl in_X3 12 (by decide) q1649 (fun _ h => h) q2 dX3_comes_102 ?_
    refine lv_iload C.x C.b dX3_comes_105 (lv_at hl 3 rfl) ?_
    refine lv_iconst (v := 1) C.x C.b dX3_comes_107 (by decide) ?_
    refine lv_isub C.x C.b dX3_comes_108 ?_
    obtain ⟨n_5, f_6, q1, q2, h⟩ := h
    refine z_iald C hR q1 (by decide) q2 dX3_comes_109 ?_
    have h := h _ rfl
    generalize f_6 (x7 - 1).toNatClampNeg = v_7 at h ⊢
    obtain ⟨n_8, f_9, q1, q2, h⟩ := h
    refine z_iald C hR q1 (by decide) q2 dX3_comes_110 ?_
    have h := h _ rfl
    generalize f_9 v_7.toNatClampNeg = v_10 at h ⊢
    refine lv_iload C.x C.b dX3_comes_111 (lv_at hl 2 rfl) ?_
    obtain ⟨h1, h2⟩ := h
    refine lv_icmp_gt (tgt := 153) C.x C.b dX3_comes_113 (by decide) (fun c => ?_) (fun c => ?_)
    · have h := h1 c; clear h1 h2
      refine lv_aload_n C.x C.b dX3_comes_153 rfl (lv_at hl 0 rfl) ?_
      obtain ⟨fs_11, a_12, q1, q2, h⟩ := h
      refine z_get C hR q1 rfl (ci := 3) rfl in_X3 12 (by decide) q1649 (fun _ h => h) q2 dX3_comes_154 ?_
      refine lv_iload C.x C.b dX3_comes_157 (lv_at hl 3 rfl) ?_
      refine lv_aload_n C.x C.b dX3_comes_159 rfl (lv_at hl 0 rfl) ?_
      obtain ⟨fs_13, a_14, q1, q2, h⟩ := h
      refine z_get C hR q1 rfl (ci := 3) rfl in_X3 12 (by decide) q1649 (fun _ h => h) q2 dX3_comes_160 ?_
      refine lv_iload C.x C.b dX3_comes_163 (lv_at hl 3 rfl) ?_
      refine lv_iconst (v := 1) C.x C.b dX3_comes_165 (by decide) ?_
      refine lv_isub C.x C.b dX3_comes_166 ?_
      obtain ⟨n_15, f_16, q1, q2, h⟩ := h
      refine z_iald C hR q1 (by decide) q2 dX3_comes_167 ?_
      have h := h _ rfl
      generalize f_16 (x7 - 1).toNatClampNeg = v_17 at h ⊢
      obtain ⟨n_18, f_19, q1, q2, h⟩ := h
      refine z_iast C hR hS q1 (by decide) q2 dX3_comes_168 (fun H locs hR hS => ?_)
      have h := h _ rfl
      generalize zSi g 12 a_12 n_18 (upd f_19 x7.toNatClampNeg v_17) = g_20 at h hR
      refine lv_iinc (v := x7 + (-1)) (lv' := [(7, .int (x7 + (-1))), (0, .ref a0), (1, .int x1), (6, .int x6)]) C.x C.b dX3_comes_169 hl (k := 3) rfl rfl (by decide) rfl (fun ls hl => ?_)
      refine lv_goto (tgt := 92) C.x C.b dX3_comes_172 (by decide) ?_
      exact h H locs ls hR hS (lv_sub hl [1, 2, 3, 0] rfl)
    · have h := h2 c; clear h1 h2
      refine lv_aload_n C.x C.b dX3_comes_116 rfl (lv_at hl 0 rfl) ?_
      obtain ⟨fs_21, a_22, q1, q2, h⟩ := h
      refine z_get C hR q1 rfl (ci := 3) rfl in_X3 7 (by decide) q1644 (fun _ h => h) q2 dX3_comes_117 ?_
      refine lv_aload_n C.x C.b dX3_comes_120 rfl (lv_at hl 0 rfl) ?_
      obtain ⟨fs_23, a_24, q1, q2, h⟩ := h
      refine z_get C hR q1 rfl (ci := 3) rfl in_X3 12 (by decide) q1649 (fun _ h => h) q2 dX3_comes_121 ?_
      refine lv_iload C.x C.b dX3_comes_124 (lv_at hl 3 rfl) ?_
      refine lv_iconst (v := 1) C.x C.b dX3_comes_126 (by decide) ?_
      refine lv_isub C.x C.b dX3_comes_127 ?_
      obtain ⟨n_25, f_26, q1, q2, h⟩ := h
      refine z_iald C hR q1 (by decide) q2 dX3_comes_128 ?_
      have h := h _ rfl
      generalize f_26 (x7 - 1).toNatClampNeg = v_27 at h ⊢
      obtain ⟨n_28, f_29, q1, q2, h⟩ := h
      refine z_iald C hR q1 (by decide) q2 dX3_comes_129 ?_
      have h := h _ rfl
      generalize f_29 v_27.toNatClampNeg = v_30 at h ⊢
      refine lv_iload C.x C.b dX3_comes_130 (lv_at hl 2 rfl) ?_
      obtain ⟨h1, h2⟩ := h
      refine lv_icmp_ne (tgt := 175) C.x C.b dX3_comes_132 (by decide) (fun c => ?_) (fun c => ?_)
      · have h := h1 c; clear h1 h2
        exact h H locs ls hR hS (lv_sub hl [0, 2, 3] rfl)
      · have h := h2 c; clear h1 h2
        refine lv_aload_n C.x C.b dX3_comes_135 rfl (lv_at hl 0 rfl) ?_
        obtain ⟨fs_31, a_32, q1, q2, h⟩ := h
        refine z_get C hR q1 rfl (ci := 3) rfl in_X3 6 (by decide) q1643 (fun _ h => h) q2 dX3_comes_136 ?_
        refine lv_aload_n C.x C.b dX3_comes_139 rfl (lv_at hl 0 rfl) ?_
        obtain ⟨fs_33, a_34, q1, q2, h⟩ := h
        refine z_get C hR q1 rfl (ci := 3) rfl in_X3 12 (by decide) q1649 (fun _ h => h) q2 dX3_comes_140 ?_
        refine lv_iload C.x C.b dX3_comes_143 (lv_at hl 3 rfl) ?_
        refine lv_iconst (v := 1) C.x C.b dX3_comes_145 (by decide) ?_
        refine lv_isub C.x C.b dX3_comes_146 ?_
        obtain ⟨n_35, f_36, q1, q2, h⟩ := h
        refine z_iald C hR q1 (by decide) q2 dX3_comes_147 ?_
        have h := h _ rfl
        generalize f_36 (x7 - 1).toNatClampNeg = v_37 at h ⊢
        obtain ⟨n_38, f_39, q1, q2, h⟩ := h
        refine z_iald C hR q1 (by decide) q2 dX3_comes_148 ?_
        have h := h _ rfl
        generalize f_39 v_37.toNatClampNeg = v_40 at h ⊢
        refine lv_iload_n C.x C.b dX3_comes_149 rfl (lv_at hl 1 rfl) ?_
        obtain ⟨h1, h2⟩ := h
        refine lv_icmp_le (tgt := 175) C.x C.b dX3_comes_150 (by decide) (fun c => ?_) (fun c => ?_)
        · have h := h1 c; clear h1 h2
          exact h H locs ls hR hS (lv_sub hl [0, 2, 3] rfl)
        · have h := h2 c; clear h1 h2
          refine lv_aload_n C.x C.b dX3_comes_153 rfl (lv_at hl 0 rfl) ?_
          obtain ⟨fs_41, a_42, q1, q2, h⟩ := h
          refine z_get C hR q1 rfl (ci := 3) rfl in_X3 12 (by decide) q1649 (fun _ h => h) q2 dX3_comes_154 ?_
          refine lv_iload C.x C.b dX3_comes_157 (lv_at hl 3 rfl) ?_
          refine lv_aload_n C.x C.b dX3_comes_159 rfl (lv_at hl 0 rfl) ?_
          obtain ⟨fs_43, a_44, q1, q2, h⟩ := h
          refine z_get C hR q1 rfl (ci := 3) rfl in_X3 12 (by decide) q1649 (fun _ h => h) q2 dX3_comes_160 ?_
          refine lv_iload C.x C.b dX3_comes_163 (lv_at hl 3 rfl) ?_
          refine lv_iconst (v := 1) C.x C.b dX3_comes_165 (by decide) ?_
          refine lv_isub C.x C.b dX3_comes_166 ?_
          obtain ⟨n_45, f_46, q1, q2, h⟩ := h
          refine z_iald C hR q1 (by decide) q2 dX3_comes_167 ?_
          have h := h _ rfl
          generalize f_46 (x7 - 1).toNatClampNeg = v_47 at h ⊢
          obtain ⟨n_48, f_49, q1, q2, h⟩ := h
          refine z_iast C hR hS q1 (by decide) q2 dX3_comes_168 (fun H locs hR hS => ?_)
          have h := h _ rfl
          generalize zSi g 12 a_42 n_48 (upd f_49 x7.toNatClampNeg v_47) = g_50 at h hR
          refine lv_iinc (v := x7 + (-1)) (lv' := [(7, .int (x7 + (-1))), (0, .ref a0), (1, .int x1), (6, .int x6)]) C.x C.b dX3_comes_169 hl (k := 3) rfl rfl (by decide) rfl (fun ls hl => ?_)
          refine lv_goto (tgt := 92) C.x C.b dX3_comes_172 (by decide) ?_
          exact h H locs ls hR hS (lv_sub hl [1, 2, 3, 0] rfl)
set_option maxHeartbeats 4000000 in
theorem bX3_comes_175 {X : zX} {d : Nat} {E : zM} {K : Option Value → zG → Prop} {KX : String → zG → Prop} (C : zC X d E RX3 cX3_comes 8 none "comes") (hQ : zQ X E K KX) (g : zG) (a0 : Nat) (x6 : Int32) (x7 : Int32) (h : ∃ (fs_1 : List Value) (a_2 : Nat), zGo g 3 a0 = some fs_1 ∧ fs_1[12]? = some (.ref a_2) ∧ ∃ (fs_3 : List Value) (v_4 : Int32), zGo g 3 a0 = some fs_3 ∧ fs_3[3]? = some (.int v_4) ∧ ∃ (n_5 : Nat) (f_6 : Nat → Int32), zGi g 12 a_2 = some (n_5, f_6) ∧ vp_in x7 n_5 ∧ ∀ g_7 : zG, g_7 = zSi g 12 a_2 n_5 (upd f_6 x7.toNatClampNeg v_4) → ∃ (fs_8 : List Value) (v_9 : Int32), zGo g_7 3 a0 = some fs_8 ∧ fs_8[5]? = some (.int v_9) ∧ (x6 ≤ v_9 → ∃ (fs_10 : List Value) (v_11 : Int32), zGo g_7 3 a0 = some fs_10 ∧ fs_10[5]? = some (.int v_11) ∧ ∃ (fs_12 : List Value), zGo g_7 3 a0 = some fs_12 ∧ 5 < fs_12.length ∧ ∀ g_13 : zG, g_13 = zSo g_7 3 a0 (fs_12.set 5 (.int v_11)) → ∃ (fs_14 : List Value) (v_15 : Int32), zGo g_13 3 a0 = some fs_14 ∧ fs_14[3]? = some (.int v_15) ∧ ∃ (fs_16 : List Value), zGo g_13 3 a0 = some fs_16 ∧ 3 < fs_16.length ∧ ∀ g_17 : zG, g_17 = zSo g_13 3 a0 (fs_16.set 3 (.int (v_15 + 1))) → K none g_17) ∧ (¬ x6 ≤ v_9 → ∃ (fs_18 : List Value), zGo g_7 3 a0 = some fs_18 ∧ 5 < fs_18.length ∧ ∀ g_19 : zG, g_19 = zSo g_7 3 a0 (fs_18.set 5 (.int x6)) → ∃ (fs_20 : List Value) (v_21 : Int32), zGo g_19 3 a0 = some fs_20 ∧ fs_20[3]? = some (.int v_21) ∧ ∃ (fs_22 : List Value), zGo g_19 3 a0 = some fs_22 ∧ 3 < fs_22.length ∧ ∀ g_23 : zG, g_23 = zSo g_19 3 a0 (fs_22.set 3 (.int (v_21 + 1))) → K none g_23)) : GW X E 8 g 175 [(0, .ref a0), (6, .int x6), (7, .int x7)] [] := by
  intro H locs ls hR hS hl
  refine lv_aload_n C.x C.b dX3_comes_175 rfl (lv_at hl 0 rfl) ?_
  obtain ⟨fs_1, a_2, q1, q2, h⟩ := h
  refine z_get C hR q1 rfl (ci := 3) rfl in_X3 12 (by decide) q1649 (fun _ h => h) q2 dX3_comes_176 ?_
  refine lv_iload C.x C.b dX3_comes_179 (lv_at hl 2 rfl) ?_
  refine lv_aload_n C.x C.b dX3_comes_181 rfl (lv_at hl 0 rfl) ?_
  obtain ⟨fs_3, v_4, q1, q2, h⟩ := h
  refine z_get C hR q1 rfl (ci := 3) rfl in_X3 3 (by decide) q1640 (fun _ h => h) q2 dX3_comes_182 ?_
  obtain ⟨n_5, f_6, q1, q2, h⟩ := h
  refine z_iast C hR hS q1 (by decide) q2 dX3_comes_185 (fun H locs hR hS => ?_)
  have h := h _ rfl
  generalize zSi g 12 a_2 n_5 (upd f_6 x7.toNatClampNeg v_4) = g_7 at h hR
  refine lv_aload_n C.x C.b dX3_comes_186 rfl (lv_at hl 0 rfl) ?_
  refine lv_iload C.x C.b dX3_comes_187 (lv_at hl 1 rfl) ?_
  refine lv_aload_n C.x C.b dX3_comes_189 rfl (lv_at hl 0 rfl) ?_
  obtain ⟨fs_8, v_9, q1, q2, h⟩ := h
  refine z_get C hR q1 rfl (ci := 3) rfl in_X3 5 (by decide) q1642 (fun _ h => h) q2 dX3_comes_190 ?_
  obtain ⟨h1, h2⟩ := h
  refine lv_icmp_le (tgt := 201) C.x C.b dX3_comes_193 (by decide) (fun c => ?_) (fun c => ?_)
  · have h := h1 c; clear h1 h2
    refine lv_aload_n C.x C.b dX3_comes_201 rfl (lv_at hl 0 rfl) ?_
    obtain ⟨fs_10, v_11, q1, q2, h⟩ := h
    refine z_get C hR q1 rfl (ci := 3) rfl in_X3 5 (by decide) q1642 (fun _ h => h) q2 dX3_comes_202 ?_
    obtain ⟨fs_12, q1, q2, h⟩ := h
    refine z_put C hR hS q1 rfl (ci := 3) rfl in_X3 tyX3 tyX3_ok nmX3 5 (by decide) q1642 (fun _ h => h) rfl ⟨rfl, rfl⟩ q2 dX3_comes_205 (fun H locs hR hS => ?_)
    have h := h _ rfl
    generalize zSo g_7 3 a0 (fs_12.set 5 (.int v_11)) = g_13 at h hR
    refine lv_aload_n C.x C.b dX3_comes_208 rfl (lv_at hl 0 rfl) ?_
    refine lv_dup C.x C.b dX3_comes_209 rfl ?_
    obtain ⟨fs_14, v_15, q1, q2, h⟩ := h
    refine z_get C hR q1 rfl (ci := 3) rfl in_X3 3 (by decide) q1640 (fun _ h => h) q2 dX3_comes_210 ?_
    refine lv_iconst (v := 1) C.x C.b dX3_comes_213 (by decide) ?_
    refine lv_iadd C.x C.b dX3_comes_214 ?_
    obtain ⟨fs_16, q1, q2, h⟩ := h
    refine z_put C hR hS q1 rfl (ci := 3) rfl in_X3 tyX3 tyX3_ok nmX3 3 (by decide) q1640 (fun _ h => h) rfl ⟨rfl, rfl⟩ q2 dX3_comes_215 (fun H locs hR hS => ?_)
    have h := h _ rfl
    generalize zSo g_13 3 a0 (fs_16.set 3 (.int (v_15 + 1))) = g_17 at h hR
    exact z_vret C hQ dX3_comes_218 h H locs ls hR hS hl
  · have h := h2 c; clear h1 h2
    refine lv_iload C.x C.b dX3_comes_196 (lv_at hl 1 rfl) ?_
    refine lv_goto (tgt := 205) C.x C.b dX3_comes_198 (by decide) ?_
    obtain ⟨fs_18, q1, q2, h⟩ := h
    refine z_put C hR hS q1 rfl (ci := 3) rfl in_X3 tyX3 tyX3_ok nmX3 5 (by decide) q1642 (fun _ h => h) rfl ⟨rfl, rfl⟩ q2 dX3_comes_205 (fun H locs hR hS => ?_)
    have h := h _ rfl
    generalize zSo g_7 3 a0 (fs_18.set 5 (.int x6)) = g_19 at h hR
    refine lv_aload_n C.x C.b dX3_comes_208 rfl (lv_at hl 0 rfl) ?_
    refine lv_dup C.x C.b dX3_comes_209 rfl ?_
    obtain ⟨fs_20, v_21, q1, q2, h⟩ := h
    refine z_get C hR q1 rfl (ci := 3) rfl in_X3 3 (by decide) q1640 (fun _ h => h) q2 dX3_comes_210 ?_
    refine lv_iconst (v := 1) C.x C.b dX3_comes_213 (by decide) ?_
    refine lv_iadd C.x C.b dX3_comes_214 ?_
    obtain ⟨fs_22, q1, q2, h⟩ := h
    refine z_put C hR hS q1 rfl (ci := 3) rfl in_X3 tyX3 tyX3_ok nmX3 3 (by decide) q1640 (fun _ h => h) rfl ⟨rfl, rfl⟩ q2 dX3_comes_215 (fun H locs hR hS => ?_)
    have h := h _ rfl
    generalize zSo g_19 3 a0 (fs_22.set 3 (.int (v_21 + 1))) = g_23 at h hR
    exact z_vret C hQ dX3_comes_218 h H locs ls hR hS hl
set_option maxHeartbeats 4000000 in
theorem mX3_comes {X : zX} {d : Nat} {g : zG} {K : Option Value → zG → Prop} {KX : String → zG → Prop} (hok : zOk X) (a0 : Nat) (x1 : Int32) (x2 : Int32) (x3 : Int32) (x4 : Int32) (x5 : Int32) (h : ∀ E : zM, zC X d E RX3 cX3_comes 8 none "comes" → zQ X E K KX → ∃ (fs_1 : List Value) (a_2 : Nat), zGo g 3 a0 = some fs_1 ∧ fs_1[0]? = some (.ref a_2) ∧ ∃ (n_3 : Nat) (f_4 : Nat → Int32), zGi g 0 a_2 = some (n_3, f_4) ∧ vp_in x1 n_3 ∧ ∀ v_5 : Int32, v_5 = f_4 x1.toNatClampNeg → ∃ (fs_6 : List Value) (a_7 : Nat), zGo g 3 a0 = some fs_6 ∧ fs_6[6]? = some (.ref a_7) ∧ ∃ (fs_8 : List Value) (v_9 : Int32), zGo g 3 a0 = some fs_8 ∧ fs_8[3]? = some (.int v_9) ∧ ∃ (n_10 : Nat) (f_11 : Nat → Int32), zGi g 6 a_7 = some (n_10, f_11) ∧ vp_in v_9 n_10 ∧ ∀ g_12 : zG, g_12 = zSi g 6 a_7 n_10 (upd f_11 v_9.toNatClampNeg x1) → ∃ (fs_13 : List Value) (a_14 : Nat), zGo g_12 3 a0 = some fs_13 ∧ fs_13[7]? = some (.ref a_14) ∧ ∃ (fs_15 : List Value) (v_16 : Int32), zGo g_12 3 a0 = some fs_15 ∧ fs_15[3]? = some (.int v_16) ∧ ∃ (n_17 : Nat) (f_18 : Nat → Int32), zGi g_12 7 a_14 = some (n_17, f_18) ∧ vp_in v_16 n_17 ∧ ∀ g_19 : zG, g_19 = zSi g_12 7 a_14 n_17 (upd f_18 v_16.toNatClampNeg (x2 + v_5)) → ∃ (fs_20 : List Value) (a_21 : Nat), zGo g_19 3 a0 = some fs_20 ∧ fs_20[8]? = some (.ref a_21) ∧ ∃ (fs_22 : List Value) (v_23 : Int32), zGo g_19 3 a0 = some fs_22 ∧ fs_22[3]? = some (.int v_23) ∧ ∃ (n_24 : Nat) (f_25 : Nat → Int32), zGi g_19 8 a_21 = some (n_24, f_25) ∧ vp_in v_23 n_24 ∧ ∀ g_26 : zG, g_26 = zSi g_19 8 a_21 n_24 (upd f_25 v_23.toNatClampNeg x3) → ∃ (fs_27 : List Value) (a_28 : Nat), zGo g_26 3 a0 = some fs_27 ∧ fs_27[9]? = some (.ref a_28) ∧ ∃ (fs_29 : List Value) (v_30 : Int32), zGo g_26 3 a0 = some fs_29 ∧ fs_29[3]? = some (.int v_30) ∧ ∃ (n_31 : Nat) (f_32 : Nat → Int32), zGi g_26 9 a_28 = some (n_31, f_32) ∧ vp_in v_30 n_31 ∧ ∀ g_33 : zG, g_33 = zSi g_26 9 a_28 n_31 (upd f_32 v_30.toNatClampNeg x4) → ∃ (fs_34 : List Value) (a_35 : Nat), zGo g_33 3 a0 = some fs_34 ∧ fs_34[10]? = some (.ref a_35) ∧ ∃ (fs_36 : List Value) (v_37 : Int32), zGo g_33 3 a0 = some fs_36 ∧ fs_36[3]? = some (.int v_37) ∧ ∃ (n_38 : Nat) (f_39 : Nat → Int32), zGi g_33 10 a_35 = some (n_38, f_39) ∧ vp_in v_37 n_38 ∧ ∀ g_40 : zG, g_40 = zSi g_33 10 a_35 n_38 (upd f_39 v_37.toNatClampNeg x5) → ∃ (fs_41 : List Value) (a_42 : Nat), zGo g_40 3 a0 = some fs_41 ∧ fs_41[11]? = some (.ref a_42) ∧ ∃ (fs_43 : List Value) (v_44 : Int32), zGo g_40 3 a0 = some fs_43 ∧ fs_43[3]? = some (.int v_44) ∧ ∃ (fs_45 : List Value) (v_46 : Int32), zGo g_40 3 a0 = some fs_45 ∧ fs_45[5]? = some (.int v_46) ∧ (v_46 ≤ (x2 + v_5) → ∃ (n_47 : Nat) (f_48 : Nat → Int32), zGi g_40 111 a_42 = some (n_47, f_48) ∧ vp_in v_44 n_47 ∧ ∀ g_49 : zG, g_49 = zSi g_40 111 a_42 n_47 (upd f_48 v_44.toNatClampNeg (vp_nar .boolean 0)) → ∃ (fs_50 : List Value) (v_51 : Int32), zGo g_49 3 a0 = some fs_50 ∧ fs_50[3]? = some (.int v_51) ∧ GW X E 8 g_49 92 [(0, .ref a0), (1, .int x1), (6, .int (x2 + v_5)), (7, .int v_51)] []) ∧ (¬ v_46 ≤ (x2 + v_5) → ∃ (n_52 : Nat) (f_53 : Nat → Int32), zGi g_40 111 a_42 = some (n_52, f_53) ∧ vp_in v_44 n_52 ∧ ∀ g_54 : zG, g_54 = zSi g_40 111 a_42 n_52 (upd f_53 v_44.toNatClampNeg (vp_nar .boolean 1)) → ∃ (fs_55 : List Value) (v_56 : Int32), zGo g_54 3 a0 = some fs_55 ∧ fs_55[3]? = some (.int v_56) ∧ GW X E 8 g_54 92 [(0, .ref a0), (1, .int x1), (6, .int (x2 + v_5)), (7, .int v_56)] [])) : zCal X d yX3_comes wX3_comes [.ref a0, .int x1, .int x2, .int x3, .int x4, .int x5] g K KX := by
  refine z_enter hok pn_X3 (Nat.le_of_ble_eq_true rfl) (fun E C hQ => ?_)
  have C : zC X d E RX3 cX3_comes 8 none "comes" := C
  have h := h E C hQ
  show GW X E 8 g 0 [(0, .ref a0), (1, .int x1), (2, .int x2), (3, .int x3), (4, .int x4), (5, .int x5)] []
  intro H locs ls hR hS hl
  refine lv_iload_n C.x C.b dX3_comes_0 rfl (lv_at hl 2 rfl) ?_
  refine lv_aload_n C.x C.b dX3_comes_1 rfl (lv_at hl 0 rfl) ?_
  obtain ⟨fs_1, a_2, q1, q2, h⟩ := h
  refine z_get C hR q1 rfl (ci := 3) rfl in_X3 0 (by decide) q1637 (fun _ h => h) q2 dX3_comes_2 ?_
  refine lv_iload_n C.x C.b dX3_comes_5 rfl (lv_at hl 1 rfl) ?_
  obtain ⟨n_3, f_4, q1, q2, h⟩ := h
  refine z_iald C hR q1 (by decide) q2 dX3_comes_6 ?_
  have h := h _ rfl
  generalize f_4 x1.toNatClampNeg = v_5 at h ⊢
  refine lv_iadd C.x C.b dX3_comes_7 ?_
  refine lv_istore (lv' := [(6, .int (x2 + v_5)), (0, .ref a0), (1, .int x1), (2, .int x2), (3, .int x3), (4, .int x4), (5, .int x5)]) C.x C.b dX3_comes_8 hl (by decide) rfl (fun ls hl => ?_)
  refine lv_aload_n C.x C.b dX3_comes_10 rfl (lv_at hl 1 rfl) ?_
  obtain ⟨fs_6, a_7, q1, q2, h⟩ := h
  refine z_get C hR q1 rfl (ci := 3) rfl in_X3 6 (by decide) q1643 (fun _ h => h) q2 dX3_comes_11 ?_
  refine lv_aload_n C.x C.b dX3_comes_14 rfl (lv_at hl 1 rfl) ?_
  obtain ⟨fs_8, v_9, q1, q2, h⟩ := h
  refine z_get C hR q1 rfl (ci := 3) rfl in_X3 3 (by decide) q1640 (fun _ h => h) q2 dX3_comes_15 ?_
  refine lv_iload_n C.x C.b dX3_comes_18 rfl (lv_at hl 2 rfl) ?_
  obtain ⟨n_10, f_11, q1, q2, h⟩ := h
  refine z_iast C hR hS q1 (by decide) q2 dX3_comes_19 (fun H locs hR hS => ?_)
  have h := h _ rfl
  generalize zSi g 6 a_7 n_10 (upd f_11 v_9.toNatClampNeg x1) = g_12 at h hR
  refine lv_aload_n C.x C.b dX3_comes_20 rfl (lv_at hl 1 rfl) ?_
  obtain ⟨fs_13, a_14, q1, q2, h⟩ := h
  refine z_get C hR q1 rfl (ci := 3) rfl in_X3 7 (by decide) q1644 (fun _ h => h) q2 dX3_comes_21 ?_
  refine lv_aload_n C.x C.b dX3_comes_24 rfl (lv_at hl 1 rfl) ?_
  obtain ⟨fs_15, v_16, q1, q2, h⟩ := h
  refine z_get C hR q1 rfl (ci := 3) rfl in_X3 3 (by decide) q1640 (fun _ h => h) q2 dX3_comes_25 ?_
  refine lv_iload C.x C.b dX3_comes_28 (lv_at hl 0 rfl) ?_
  obtain ⟨n_17, f_18, q1, q2, h⟩ := h
  refine z_iast C hR hS q1 (by decide) q2 dX3_comes_30 (fun H locs hR hS => ?_)
  have h := h _ rfl
  generalize zSi g_12 7 a_14 n_17 (upd f_18 v_16.toNatClampNeg (x2 + v_5)) = g_19 at h hR
  refine lv_aload_n C.x C.b dX3_comes_31 rfl (lv_at hl 1 rfl) ?_
  obtain ⟨fs_20, a_21, q1, q2, h⟩ := h
  refine z_get C hR q1 rfl (ci := 3) rfl in_X3 8 (by decide) q1645 (fun _ h => h) q2 dX3_comes_32 ?_
  refine lv_aload_n C.x C.b dX3_comes_35 rfl (lv_at hl 1 rfl) ?_
  obtain ⟨fs_22, v_23, q1, q2, h⟩ := h
  refine z_get C hR q1 rfl (ci := 3) rfl in_X3 3 (by decide) q1640 (fun _ h => h) q2 dX3_comes_36 ?_
  refine lv_iload_n C.x C.b dX3_comes_39 rfl (lv_at hl 4 rfl) ?_
  obtain ⟨n_24, f_25, q1, q2, h⟩ := h
  refine z_iast C hR hS q1 (by decide) q2 dX3_comes_40 (fun H locs hR hS => ?_)
  have h := h _ rfl
  generalize zSi g_19 8 a_21 n_24 (upd f_25 v_23.toNatClampNeg x3) = g_26 at h hR
  refine lv_aload_n C.x C.b dX3_comes_41 rfl (lv_at hl 1 rfl) ?_
  obtain ⟨fs_27, a_28, q1, q2, h⟩ := h
  refine z_get C hR q1 rfl (ci := 3) rfl in_X3 9 (by decide) q1646 (fun _ h => h) q2 dX3_comes_42 ?_
  refine lv_aload_n C.x C.b dX3_comes_45 rfl (lv_at hl 1 rfl) ?_
  obtain ⟨fs_29, v_30, q1, q2, h⟩ := h
  refine z_get C hR q1 rfl (ci := 3) rfl in_X3 3 (by decide) q1640 (fun _ h => h) q2 dX3_comes_46 ?_
  refine lv_iload C.x C.b dX3_comes_49 (lv_at hl 5 rfl) ?_
  obtain ⟨n_31, f_32, q1, q2, h⟩ := h
  refine z_iast C hR hS q1 (by decide) q2 dX3_comes_51 (fun H locs hR hS => ?_)
  have h := h _ rfl
  generalize zSi g_26 9 a_28 n_31 (upd f_32 v_30.toNatClampNeg x4) = g_33 at h hR
  refine lv_aload_n C.x C.b dX3_comes_52 rfl (lv_at hl 1 rfl) ?_
  obtain ⟨fs_34, a_35, q1, q2, h⟩ := h
  refine z_get C hR q1 rfl (ci := 3) rfl in_X3 10 (by decide) q1647 (fun _ h => h) q2 dX3_comes_53 ?_
  refine lv_aload_n C.x C.b dX3_comes_56 rfl (lv_at hl 1 rfl) ?_
  obtain ⟨fs_36, v_37, q1, q2, h⟩ := h
  refine z_get C hR q1 rfl (ci := 3) rfl in_X3 3 (by decide) q1640 (fun _ h => h) q2 dX3_comes_57 ?_
  refine lv_iload C.x C.b dX3_comes_60 (lv_at hl 6 rfl) ?_
  obtain ⟨n_38, f_39, q1, q2, h⟩ := h
  refine z_iast C hR hS q1 (by decide) q2 dX3_comes_62 (fun H locs hR hS => ?_)
  have h := h _ rfl
  generalize zSi g_33 10 a_35 n_38 (upd f_39 v_37.toNatClampNeg x5) = g_40 at h hR
  refine lv_aload_n C.x C.b dX3_comes_63 rfl (lv_at hl 1 rfl) ?_
  obtain ⟨fs_41, a_42, q1, q2, h⟩ := h
  refine z_get C hR q1 rfl (ci := 3) rfl in_X3 11 (by decide) q1648 (fun _ h => h) q2 dX3_comes_64 ?_
  refine lv_aload_n C.x C.b dX3_comes_67 rfl (lv_at hl 1 rfl) ?_
  obtain ⟨fs_43, v_44, q1, q2, h⟩ := h
  refine z_get C hR q1 rfl (ci := 3) rfl in_X3 3 (by decide) q1640 (fun _ h => h) q2 dX3_comes_68 ?_
  refine lv_iload C.x C.b dX3_comes_71 (lv_at hl 0 rfl) ?_
  refine lv_aload_n C.x C.b dX3_comes_73 rfl (lv_at hl 1 rfl) ?_
  obtain ⟨fs_45, v_46, q1, q2, h⟩ := h
  refine z_get C hR q1 rfl (ci := 3) rfl in_X3 5 (by decide) q1642 (fun _ h => h) q2 dX3_comes_74 ?_
  obtain ⟨h1, h2⟩ := h
  refine lv_icmp_ge (tgt := 84) C.x C.b dX3_comes_77 (by decide) (fun c => ?_) (fun c => ?_)
  · have h := h1 c; clear h1 h2
    refine lv_iconst (v := 0) C.x C.b dX3_comes_84 (by decide) ?_
    obtain ⟨n_47, f_48, q1, q2, h⟩ := h
    refine z_zast C hR hS q1 (by decide) q2 dX3_comes_85 (fun H locs hR hS => ?_)
    have h := h _ rfl
    generalize zSi g_40 111 a_42 n_47 (upd f_48 v_44.toNatClampNeg (vp_nar .boolean 0)) = g_49 at h hR
    refine lv_aload_n C.x C.b dX3_comes_86 rfl (lv_at hl 1 rfl) ?_
    obtain ⟨fs_50, v_51, q1, q2, h⟩ := h
    refine z_get C hR q1 rfl (ci := 3) rfl in_X3 3 (by decide) q1640 (fun _ h => h) q2 dX3_comes_87 ?_
    refine lv_istore (lv' := [(7, .int v_51), (6, .int (x2 + v_5)), (0, .ref a0), (1, .int x1), (2, .int x2), (3, .int x3), (4, .int x4), (5, .int x5)]) C.x C.b dX3_comes_90 hl (by decide) rfl (fun ls hl => ?_)
    exact h H locs ls hR hS (lv_sub hl [2, 3, 1, 0] rfl)
  · have h := h2 c; clear h1 h2
    refine lv_iconst (v := 1) C.x C.b dX3_comes_80 (by decide) ?_
    refine lv_goto (tgt := 85) C.x C.b dX3_comes_81 (by decide) ?_
    obtain ⟨n_52, f_53, q1, q2, h⟩ := h
    refine z_zast C hR hS q1 (by decide) q2 dX3_comes_85 (fun H locs hR hS => ?_)
    have h := h _ rfl
    generalize zSi g_40 111 a_42 n_52 (upd f_53 v_44.toNatClampNeg (vp_nar .boolean 1)) = g_54 at h hR
    refine lv_aload_n C.x C.b dX3_comes_86 rfl (lv_at hl 1 rfl) ?_
    obtain ⟨fs_55, v_56, q1, q2, h⟩ := h
    refine z_get C hR q1 rfl (ci := 3) rfl in_X3 3 (by decide) q1640 (fun _ h => h) q2 dX3_comes_87 ?_
    refine lv_istore (lv' := [(7, .int v_56), (6, .int (x2 + v_5)), (0, .ref a0), (1, .int x1), (2, .int x2), (3, .int x3), (4, .int x4), (5, .int x5)]) C.x C.b dX3_comes_90 hl (by decide) rfl (fun ls hl => ?_)
    exact h H locs ls hR hS (lv_sub hl [2, 3, 1, 0] rfl)
set_option maxHeartbeats 4000000 in
theorem mX3_and {X : zX} {d : Nat} {g : zG} {K : Option Value → zG → Prop} {KX : String → zG → Prop} (hok : zOk X) (x0 : Int32) (x1 : Int32) (h : (x0 = 0 → K (some (.int 0)) g) ∧ (¬ x0 = 0 → (¬ x1 = 0 → (x0 = 2 → K (some (.int 2)) g) ∧ (¬ x0 = 2 → (¬ x1 = 2 → K (some (.int 1)) g) ∧ (x1 = 2 → K (some (.int 2)) g))) ∧ (x1 = 0 → K (some (.int 0)) g))) : zCal X d yX3_and wX3_and [.int x0, .int x1] g K KX := by
  refine z_enter hok pn_X3 (Nat.le_of_ble_eq_true rfl) (fun E C hQ => ?_)
  have C : zC X d E RX3 cX3_and 2 (some .int) "and" := C
  show GW X E 2 g 0 [(0, .int x0), (1, .int x1)] []
  intro H locs ls hR hS hl
  refine lv_iload_n C.x C.b dX3_and_0 rfl (lv_at hl 0 rfl) ?_
  obtain ⟨h1, h2⟩ := h
  refine lv_if_eq (tgt := 8) C.x C.b dX3_and_1 (by decide) (fun c => ?_) (fun c => ?_)
  · have h := h1 c; clear h1 h2
    refine lv_iconst (v := 0) C.x C.b dX3_and_8 (by decide) ?_
    refine lv_goto (tgt := 27) C.x C.b dX3_and_9 (by decide) ?_
    exact z_iret C hQ dX3_and_27 h H locs ls hR hS hl
  · have h := h2 c; clear h1 h2
    refine lv_iload_n C.x C.b dX3_and_4 rfl (lv_at hl 1 rfl) ?_
    obtain ⟨h1, h2⟩ := h
    refine lv_if_ne (tgt := 12) C.x C.b dX3_and_5 (by decide) (fun c => ?_) (fun c => ?_)
    · have h := h1 c; clear h1 h2
      refine lv_iload_n C.x C.b dX3_and_12 rfl (lv_at hl 0 rfl) ?_
      refine lv_iconst (v := 2) C.x C.b dX3_and_13 (by decide) ?_
      obtain ⟨h1, h2⟩ := h
      refine lv_icmp_eq (tgt := 22) C.x C.b dX3_and_14 (by decide) (fun c => ?_) (fun c => ?_)
      · have h := h1 c; clear h1 h2
        refine lv_iconst (v := 2) C.x C.b dX3_and_22 (by decide) ?_
        refine lv_goto (tgt := 27) C.x C.b dX3_and_23 (by decide) ?_
        exact z_iret C hQ dX3_and_27 h H locs ls hR hS hl
      · have h := h2 c; clear h1 h2
        refine lv_iload_n C.x C.b dX3_and_17 rfl (lv_at hl 1 rfl) ?_
        refine lv_iconst (v := 2) C.x C.b dX3_and_18 (by decide) ?_
        obtain ⟨h1, h2⟩ := h
        refine lv_icmp_ne (tgt := 26) C.x C.b dX3_and_19 (by decide) (fun c => ?_) (fun c => ?_)
        · have h := h1 c; clear h1 h2
          refine lv_iconst (v := 1) C.x C.b dX3_and_26 (by decide) ?_
          exact z_iret C hQ dX3_and_27 h H locs ls hR hS hl
        · have h := h2 c; clear h1 h2
          refine lv_iconst (v := 2) C.x C.b dX3_and_22 (by decide) ?_
          refine lv_goto (tgt := 27) C.x C.b dX3_and_23 (by decide) ?_
          exact z_iret C hQ dX3_and_27 h H locs ls hR hS hl
    · have h := h2 c; clear h1 h2
      refine lv_iconst (v := 0) C.x C.b dX3_and_8 (by decide) ?_
      refine lv_goto (tgt := 27) C.x C.b dX3_and_9 (by decide) ?_
      exact z_iret C hQ dX3_and_27 h H locs ls hR hS hl
set_option maxHeartbeats 4000000 in
theorem mX3_at {X : zX} {d : Nat} {g : zG} {K : Option Value → zG → Prop} {KX : String → zG → Prop} (hok : zOk X) (a0 : Nat) (x1 : Int32) (x2 : Int32) (h : ∃ (fs_1 : List Value) (a_2 : Nat), zGo g 3 a0 = some fs_1 ∧ fs_1[32]? = some (.ref a_2) ∧ ∃ (n_3 : Nat) (f_4 : Nat → Int32), zGi g 32 a_2 = some (n_3, f_4) ∧ vp_in ((80 * x1) + x2) n_3 ∧ ∀ v_5 : Int32, v_5 = f_4 ((80 * x1) + x2).toNatClampNeg → K (some (.int v_5)) g) : zCal X d yX3_at wX3_at [.ref a0, .int x1, .int x2] g K KX := by
  refine z_enter hok pn_X3 (Nat.le_of_ble_eq_true rfl) (fun E C hQ => ?_)
  have C : zC X d E RX3 cX3_at 3 (some .int) "at" := C
  show GW X E 3 g 0 [(0, .ref a0), (1, .int x1), (2, .int x2)] []
  intro H locs ls hR hS hl
  refine lv_aload_n C.x C.b dX3_at_0 rfl (lv_at hl 0 rfl) ?_
  obtain ⟨fs_1, a_2, q1, q2, h⟩ := h
  refine z_get C hR q1 rfl (ci := 3) rfl in_X3 32 (by decide) q1669 (fun _ h => h) q2 dX3_at_1 ?_
  refine lv_bipush (v := 80) C.x C.b dX3_at_4 (by decide) ?_
  refine lv_iload_n C.x C.b dX3_at_6 rfl (lv_at hl 1 rfl) ?_
  refine lv_imul C.x C.b dX3_at_7 ?_
  refine lv_iload_n C.x C.b dX3_at_8 rfl (lv_at hl 2 rfl) ?_
  refine lv_iadd C.x C.b dX3_at_9 ?_
  obtain ⟨n_3, f_4, q1, q2, h⟩ := h
  refine z_iald C hR q1 (by decide) q2 dX3_at_10 ?_
  have h := h _ rfl
  generalize f_4 ((80 * x1) + x2).toNatClampNeg = v_5 at h ⊢
  exact z_iret C hQ dX3_at_11 h H locs ls hR hS hl
set_option maxHeartbeats 4000000 in
theorem mX3_fromOf {X : zX} {d : Nat} {g : zG} {K : Option Value → zG → Prop} {KX : String → zG → Prop} (hok : zOk X) (x0 : Int32) (h : K (some (.int (192 + (24 * x0)))) g) : zCal X d yX3_fromOf wX3_fromOf [.int x0] g K KX := by
  refine z_enter hok pn_X3 (Nat.le_of_ble_eq_true rfl) (fun E C hQ => ?_)
  have C : zC X d E RX3 cX3_fromOf 1 (some .int) "fromOf" := C
  show GW X E 1 g 0 [(0, .int x0)] []
  intro H locs ls hR hS hl
  refine lv_sipush (v := 192) C.x C.b dX3_fromOf_0 (by decide) ?_
  refine lv_bipush (v := 24) C.x C.b dX3_fromOf_3 (by decide) ?_
  refine lv_iload_n C.x C.b dX3_fromOf_5 rfl (lv_at hl 0 rfl) ?_
  refine lv_imul C.x C.b dX3_fromOf_6 ?_
  refine lv_iadd C.x C.b dX3_fromOf_7 ?_
  exact z_iret C hQ dX3_fromOf_8 h H locs ls hR hS hl
set_option maxHeartbeats 4000000 in
theorem mX3_isValue {X : zX} {d : Nat} {g : zG} {K : Option Value → zG → Prop} {KX : String → zG → Prop} (hok : zOk X) (a0 : Nat) (x1 : Int32) (x2 : Int32) (x3 : Int32) (h : (¬ x2 = 0 → (¬ x2 = 1 → (x1 ≤ x3 → K (some (.int 0)) g) ∧ (¬ x1 ≤ x3 → K (some (.int 1)) g)) ∧ (x2 = 1 → (¬ x1 = x3 → K (some (.int 0)) g) ∧ (x1 = x3 → K (some (.int 1)) g))) ∧ (x2 = 0 → (x3 ≤ x1 → K (some (.int 0)) g) ∧ (¬ x3 ≤ x1 → K (some (.int 1)) g))) : zCal X d yX3_isValue wX3_isValue [.ref a0, .int x1, .int x2, .int x3] g K KX := by
  refine z_enter hok pn_X3 (Nat.le_of_ble_eq_true rfl) (fun E C hQ => ?_)
  have C : zC X d E RX3 cX3_isValue 4 (some .boolean) "isValue" := C
  show GW X E 4 g 0 [(0, .ref a0), (1, .int x1), (2, .int x2), (3, .int x3)] []
  intro H locs ls hR hS hl
  refine lv_iload_n C.x C.b dX3_isValue_0 rfl (lv_at hl 2 rfl) ?_
  obtain ⟨h1, h2⟩ := h
  refine lv_if_ne (tgt := 17) C.x C.b dX3_isValue_1 (by decide) (fun c => ?_) (fun c => ?_)
  · have h := h1 c; clear h1 h2
    refine lv_iload_n C.x C.b dX3_isValue_17 rfl (lv_at hl 2 rfl) ?_
    refine lv_iconst (v := 1) C.x C.b dX3_isValue_18 (by decide) ?_
    obtain ⟨h1, h2⟩ := h
    refine lv_icmp_ne (tgt := 35) C.x C.b dX3_isValue_19 (by decide) (fun c => ?_) (fun c => ?_)
    · have h := h1 c; clear h1 h2
      refine lv_iload_n C.x C.b dX3_isValue_35 rfl (lv_at hl 1 rfl) ?_
      refine lv_iload_n C.x C.b dX3_isValue_36 rfl (lv_at hl 3 rfl) ?_
      obtain ⟨h1, h2⟩ := h
      refine lv_icmp_le (tgt := 44) C.x C.b dX3_isValue_37 (by decide) (fun c => ?_) (fun c => ?_)
      · have h := h1 c; clear h1 h2
        refine lv_iconst (v := 0) C.x C.b dX3_isValue_44 (by decide) ?_
        exact z_zret C hQ rfl dX3_isValue_45 h H locs ls hR hS hl
      · have h := h2 c; clear h1 h2
        refine lv_iconst (v := 1) C.x C.b dX3_isValue_40 (by decide) ?_
        refine lv_goto (tgt := 45) C.x C.b dX3_isValue_41 (by decide) ?_
        exact z_zret C hQ rfl dX3_isValue_45 h H locs ls hR hS hl
    · have h := h2 c; clear h1 h2
      refine lv_iload_n C.x C.b dX3_isValue_22 rfl (lv_at hl 1 rfl) ?_
      refine lv_iload_n C.x C.b dX3_isValue_23 rfl (lv_at hl 3 rfl) ?_
      obtain ⟨h1, h2⟩ := h
      refine lv_icmp_ne (tgt := 31) C.x C.b dX3_isValue_24 (by decide) (fun c => ?_) (fun c => ?_)
      · have h := h1 c; clear h1 h2
        refine lv_iconst (v := 0) C.x C.b dX3_isValue_31 (by decide) ?_
        refine lv_goto (tgt := 45) C.x C.b dX3_isValue_32 (by decide) ?_
        exact z_zret C hQ rfl dX3_isValue_45 h H locs ls hR hS hl
      · have h := h2 c; clear h1 h2
        refine lv_iconst (v := 1) C.x C.b dX3_isValue_27 (by decide) ?_
        refine lv_goto (tgt := 45) C.x C.b dX3_isValue_28 (by decide) ?_
        exact z_zret C hQ rfl dX3_isValue_45 h H locs ls hR hS hl
  · have h := h2 c; clear h1 h2
    refine lv_iload_n C.x C.b dX3_isValue_4 rfl (lv_at hl 1 rfl) ?_
    refine lv_iload_n C.x C.b dX3_isValue_5 rfl (lv_at hl 3 rfl) ?_
    obtain ⟨h1, h2⟩ := h
    refine lv_icmp_ge (tgt := 13) C.x C.b dX3_isValue_6 (by decide) (fun c => ?_) (fun c => ?_)
    · have h := h1 c; clear h1 h2
      refine lv_iconst (v := 0) C.x C.b dX3_isValue_13 (by decide) ?_
      refine lv_goto (tgt := 45) C.x C.b dX3_isValue_14 (by decide) ?_
      exact z_zret C hQ rfl dX3_isValue_45 h H locs ls hR hS hl
    · have h := h2 c; clear h1 h2
      refine lv_iconst (v := 1) C.x C.b dX3_isValue_9 (by decide) ?_
      refine lv_goto (tgt := 45) C.x C.b dX3_isValue_10 (by decide) ?_
      exact z_zret C hQ rfl dX3_isValue_45 h H locs ls hR hS hl
set_option maxHeartbeats 4000000 in
theorem mX3_isNear {X : zX} {d : Nat} {g : zG} {K : Option Value → zG → Prop} {KX : String → zG → Prop} (hok : zOk X) (a0 : Nat) (x1 : Int32) (x2 : Int32) (x3 : Int32) (h : (x3 = (-1) → K (some (.int 1)) g) ∧ (¬ x3 = (-1) → ∃ (fs_1 : List Value) (a_2 : Nat), zGo g 3 a0 = some fs_1 ∧ fs_1[7]? = some (.ref a_2) ∧ ∃ (fs_3 : List Value) (a_4 : Nat), zGo g 3 a0 = some fs_3 ∧ fs_3[28]? = some (.ref a_4) ∧ ∃ (n_5 : Nat) (f_6 : Nat → Int32), zGi g 28 a_4 = some (n_5, f_6) ∧ vp_in x2 n_5 ∧ ∀ v_7 : Int32, v_7 = f_6 x2.toNatClampNeg → ∃ (n_8 : Nat) (f_9 : Nat → Int32), zGi g 7 a_2 = some (n_8, f_9) ∧ vp_in v_7 n_8 ∧ ∀ v_10 : Int32, v_10 = f_9 v_7.toNatClampNeg → ∃ (fs_11 : List Value) (a_12 : Nat), zGo g 3 a0 = some fs_11 ∧ fs_11[7]? = some (.ref a_12) ∧ ∃ (fs_13 : List Value) (a_14 : Nat), zGo g 3 a0 = some fs_13 ∧ fs_13[28]? = some (.ref a_14) ∧ ∃ (n_15 : Nat) (f_16 : Nat → Int32), zGi g 28 a_14 = some (n_15, f_16) ∧ vp_in x1 n_15 ∧ ∀ v_17 : Int32, v_17 = f_16 x1.toNatClampNeg → ∃ (n_18 : Nat) (f_19 : Nat → Int32), zGi g 7 a_12 = some (n_18, f_19) ∧ vp_in v_17 n_18 ∧ ∀ v_20 : Int32, v_20 = f_19 v_17.toNatClampNeg → (x3 < (v_10 - v_20) → K (some (.int 0)) g) ∧ (¬ x3 < (v_10 - v_20) → K (some (.int 1)) g))) : zCal X d yX3_isNear wX3_isNear [.ref a0, .int x1, .int x2, .int x3] g K KX := by
  refine z_enter hok pn_X3 (Nat.le_of_ble_eq_true rfl) (fun E C hQ => ?_)
  have C : zC X d E RX3 cX3_isNear 4 (some .boolean) "isNear" := C
  show GW X E 4 g 0 [(0, .ref a0), (1, .int x1), (2, .int x2), (3, .int x3)] []
  intro H locs ls hR hS hl
  refine lv_iload_n C.x C.b dX3_isNear_0 rfl (lv_at hl 3 rfl) ?_
  refine lv_iconst (v := (-1)) C.x C.b dX3_isNear_1 (by decide) ?_
  obtain ⟨h1, h2⟩ := h
  refine lv_icmp_eq (tgt := 32) C.x C.b dX3_isNear_2 (by decide) (fun c => ?_) (fun c => ?_)
  · have h := h1 c; clear h1 h2
    refine lv_iconst (v := 1) C.x C.b dX3_isNear_32 (by decide) ?_
    refine lv_goto (tgt := 37) C.x C.b dX3_isNear_33 (by decide) ?_
    exact z_zret C hQ rfl dX3_isNear_37 h H locs ls hR hS hl
  · have h := h2 c; clear h1 h2
    refine lv_aload_n C.x C.b dX3_isNear_5 rfl (lv_at hl 0 rfl) ?_
    obtain ⟨fs_1, a_2, q1, q2, h⟩ := h
    refine z_get C hR q1 rfl (ci := 3) rfl in_X3 7 (by decide) q1644 (fun _ h => h) q2 dX3_isNear_6 ?_
    refine lv_aload_n C.x C.b dX3_isNear_9 rfl (lv_at hl 0 rfl) ?_
    obtain ⟨fs_3, a_4, q1, q2, h⟩ := h
    refine z_get C hR q1 rfl (ci := 3) rfl in_X3 28 (by decide) q1665 (fun _ h => h) q2 dX3_isNear_10 ?_
    refine lv_iload_n C.x C.b dX3_isNear_13 rfl (lv_at hl 2 rfl) ?_
    obtain ⟨n_5, f_6, q1, q2, h⟩ := h
    refine z_iald C hR q1 (by decide) q2 dX3_isNear_14 ?_
    have h := h _ rfl
    generalize f_6 x2.toNatClampNeg = v_7 at h ⊢
    obtain ⟨n_8, f_9, q1, q2, h⟩ := h
    refine z_iald C hR q1 (by decide) q2 dX3_isNear_15 ?_
    have h := h _ rfl
    generalize f_9 v_7.toNatClampNeg = v_10 at h ⊢
    refine lv_aload_n C.x C.b dX3_isNear_16 rfl (lv_at hl 0 rfl) ?_
    obtain ⟨fs_11, a_12, q1, q2, h⟩ := h
    refine z_get C hR q1 rfl (ci := 3) rfl in_X3 7 (by decide) q1644 (fun _ h => h) q2 dX3_isNear_17 ?_
    refine lv_aload_n C.x C.b dX3_isNear_20 rfl (lv_at hl 0 rfl) ?_
    obtain ⟨fs_13, a_14, q1, q2, h⟩ := h
    refine z_get C hR q1 rfl (ci := 3) rfl in_X3 28 (by decide) q1665 (fun _ h => h) q2 dX3_isNear_21 ?_
    refine lv_iload_n C.x C.b dX3_isNear_24 rfl (lv_at hl 1 rfl) ?_
    obtain ⟨n_15, f_16, q1, q2, h⟩ := h
    refine z_iald C hR q1 (by decide) q2 dX3_isNear_25 ?_
    have h := h _ rfl
    generalize f_16 x1.toNatClampNeg = v_17 at h ⊢
    obtain ⟨n_18, f_19, q1, q2, h⟩ := h
    refine z_iald C hR q1 (by decide) q2 dX3_isNear_26 ?_
    have h := h _ rfl
    generalize f_19 v_17.toNatClampNeg = v_20 at h ⊢
    refine lv_isub C.x C.b dX3_isNear_27 ?_
    refine lv_iload_n C.x C.b dX3_isNear_28 rfl (lv_at hl 3 rfl) ?_
    obtain ⟨h1, h2⟩ := h
    refine lv_icmp_gt (tgt := 36) C.x C.b dX3_isNear_29 (by decide) (fun c => ?_) (fun c => ?_)
    · have h := h1 c; clear h1 h2
      refine lv_iconst (v := 0) C.x C.b dX3_isNear_36 (by decide) ?_
      exact z_zret C hQ rfl dX3_isNear_37 h H locs ls hR hS hl
    · have h := h2 c; clear h1 h2
      refine lv_iconst (v := 1) C.x C.b dX3_isNear_32 (by decide) ?_
      refine lv_goto (tgt := 37) C.x C.b dX3_isNear_33 (by decide) ?_
      exact z_zret C hQ rfl dX3_isNear_37 h H locs ls hR hS hl
theorem hdV_X3_at : yX3_at.cls = RX3 ∧ yX3_at.cls ≠ "java/lang/invoke/MethodHandle" ∧ yX3_at.cls ≠ "java/lang/invoke/VarHandle" ∧ (parseMethodDescriptor yX3_at.desc).map (fun d => d.parameters.length) = some 2 := by decide +kernel
theorem hdV_X3_isNear : yX3_isNear.cls = RX3 ∧ yX3_isNear.cls ≠ "java/lang/invoke/MethodHandle" ∧ yX3_isNear.cls ≠ "java/lang/invoke/VarHandle" ∧ (parseMethodDescriptor yX3_isNear.desc).map (fun d => d.parameters.length) = some 3 := by decide +kernel
set_option maxHeartbeats 4000000 in
theorem bX3_manyAt_9 {X : zX} {d : Nat} {E : zM} {K : Option Value → zG → Prop} {KX : String → zG → Prop} (C : zC X (d + 1) E RX3 cX3_manyAt 8 (some .int) "manyAt") (hQ : zQ X E K KX) (g : zG) (a0 : Nat) (x1 : Int32) (x2 : Int32) (x3 : Int32) (x4 : Int32) (x5 : Int32) (x6 : Int32) (x7 : Int32) (h : (x7 < 0 → (x5 < x3 → (x3 ≤ x6 → K (some (.int 2)) g) ∧ (¬ x3 ≤ x6 → K (some (.int 0)) g)) ∧ (¬ x5 < x3 → K (some (.int 1)) g)) ∧ (¬ x7 < 0 → zIs g 3 a0 ∧ zCal X d yX3_isNear wX3_isNear [.ref a0, .int x7, .int x2, .int x4] g (fun r g_1 => ∃ v_2 : Int32, r = some (.int v_2) ∧ zbo v_2 ∧ (v_2 = 0 → (x5 < x3 → (x3 ≤ x6 → K (some (.int 2)) g_1) ∧ (¬ x3 ≤ x6 → K (some (.int 0)) g_1)) ∧ (¬ x5 < x3 → K (some (.int 1)) g_1)) ∧ (¬ v_2 = 0 → zIs g_1 3 a0 ∧ zCal X d yX3_at wX3_at [.ref a0, .int x1, .int x7] g_1 (fun r g_3 => ∃ v_4 : Int32, r = some (.int v_4) ∧ (¬ v_4 = 1 → GW X E 8 g_3 44 [(0, .ref a0), (1, .int x1), (2, .int x2), (3, .int x3), (4, .int x4), (6, .int x6), (7, .int x7)] [.int 0, .int x5]) ∧ (v_4 = 1 → GW X E 8 g_3 44 [(0, .ref a0), (1, .int x1), (2, .int x2), (3, .int x3), (4, .int x4), (6, .int x6), (7, .int x7)] [.int 1, .int x5])) KX)) KX)) : GW X E 8 g 9 [(0, .ref a0), (1, .int x1), (2, .int x2), (3, .int x3), (4, .int x4), (5, .int x5), (6, .int x6), (7, .int x7)] [] := by
  intro H locs ls hR hS hl
  refine lv_iload C.x C.b dX3_manyAt_9 (lv_at hl 7 rfl) ?_
  obtain ⟨h1, h2⟩ := h
  refine lv_if_lt (tgt := 73) C.x C.b dX3_manyAt_11 (by decide) (fun c => ?_) (fun c => ?_)
  · have h := h1 c; clear h1 h2
    refine lv_iload C.x C.b dX3_manyAt_73 (lv_at hl 5 rfl) ?_
    refine lv_iload_n C.x C.b dX3_manyAt_75 rfl (lv_at hl 3 rfl) ?_
    obtain ⟨h1, h2⟩ := h
    refine lv_icmp_lt (tgt := 83) C.x C.b dX3_manyAt_76 (by decide) (fun c => ?_) (fun c => ?_)
    · have h := h1 c; clear h1 h2
      refine lv_iload C.x C.b dX3_manyAt_83 (lv_at hl 6 rfl) ?_
      refine lv_iload_n C.x C.b dX3_manyAt_85 rfl (lv_at hl 3 rfl) ?_
      obtain ⟨h1, h2⟩ := h
      refine lv_icmp_ge (tgt := 93) C.x C.b dX3_manyAt_86 (by decide) (fun c => ?_) (fun c => ?_)
      · have h := h1 c; clear h1 h2
        refine lv_iconst (v := 2) C.x C.b dX3_manyAt_93 (by decide) ?_
        exact z_iret C hQ dX3_manyAt_94 h H locs ls hR hS hl
      · have h := h2 c; clear h1 h2
        refine lv_iconst (v := 0) C.x C.b dX3_manyAt_89 (by decide) ?_
        refine lv_goto (tgt := 94) C.x C.b dX3_manyAt_90 (by decide) ?_
        exact z_iret C hQ dX3_manyAt_94 h H locs ls hR hS hl
    · have h := h2 c; clear h1 h2
      refine lv_iconst (v := 1) C.x C.b dX3_manyAt_79 (by decide) ?_
      refine lv_goto (tgt := 94) C.x C.b dX3_manyAt_80 (by decide) ?_
      exact z_iret C hQ dX3_manyAt_94 h H locs ls hR hS hl
  · have h := h2 c; clear h1 h2
    refine lv_aload_n C.x C.b dX3_manyAt_14 rfl (lv_at hl 0 rfl) ?_
    refine lv_iload C.x C.b dX3_manyAt_15 (lv_at hl 7 rfl) ?_
    refine lv_iload_n C.x C.b dX3_manyAt_17 rfl (lv_at hl 2 rfl) ?_
    refine lv_iload C.x C.b dX3_manyAt_18 (lv_at hl 4 rfl) ?_
    refine z_callV C hR hS hl (n := 3) (C1 := RX3) (T := TX3) (N := 35) (ci := 3) (y := yX3_isNear) (bytes := cX3_isNear) (maxL := 4) (rt := (some .boolean)) (As := [.int x7, .int x2, .int x4]) (rest := []) h.1 rfl (lw_V q1833 q1835 qs41 q82 q1836) hdV_X3_isNear (by decide) rfl rfl (Nat.le_of_ble_eq_true rfl) dX3_manyAt_20 h.2 (fun r g_1 hk_ => ?_) (fun x g1 h => z_out C hQ h)
    clear h; obtain ⟨v_2, rfl, zb_, h⟩ := hk_
    show GW X E 8 g_1 23 [(0, .ref a0), (1, .int x1), (2, .int x2), (3, .int x3), (4, .int x4), (5, .int x5), (6, .int x6), (7, .int x7)] [.int v_2]
    intro H locs ls hR hS hl
    obtain ⟨h1, h2⟩ := h
    refine lv_if_eq (tgt := 73) C.x C.b dX3_manyAt_23 (by decide) (fun c => ?_) (fun c => ?_)
    · have h := h1 c; clear h1 h2
      refine lv_iload C.x C.b dX3_manyAt_73 (lv_at hl 5 rfl) ?_
      refine lv_iload_n C.x C.b dX3_manyAt_75 rfl (lv_at hl 3 rfl) ?_
      obtain ⟨h1, h2⟩ := h
      refine lv_icmp_lt (tgt := 83) C.x C.b dX3_manyAt_76 (by decide) (fun c => ?_) (fun c => ?_)
      · have h := h1 c; clear h1 h2
        refine lv_iload C.x C.b dX3_manyAt_83 (lv_at hl 6 rfl) ?_
        refine lv_iload_n C.x C.b dX3_manyAt_85 rfl (lv_at hl 3 rfl) ?_
        obtain ⟨h1, h2⟩ := h
        refine lv_icmp_ge (tgt := 93) C.x C.b dX3_manyAt_86 (by decide) (fun c => ?_) (fun c => ?_)
        · have h := h1 c; clear h1 h2
          refine lv_iconst (v := 2) C.x C.b dX3_manyAt_93 (by decide) ?_
          exact z_iret C hQ dX3_manyAt_94 h H locs ls hR hS hl
        · have h := h2 c; clear h1 h2
          refine lv_iconst (v := 0) C.x C.b dX3_manyAt_89 (by decide) ?_
          refine lv_goto (tgt := 94) C.x C.b dX3_manyAt_90 (by decide) ?_
          exact z_iret C hQ dX3_manyAt_94 h H locs ls hR hS hl
      · have h := h2 c; clear h1 h2
        refine lv_iconst (v := 1) C.x C.b dX3_manyAt_79 (by decide) ?_
        refine lv_goto (tgt := 94) C.x C.b dX3_manyAt_80 (by decide) ?_
        exact z_iret C hQ dX3_manyAt_94 h H locs ls hR hS hl
    · have h := h2 c; clear h1 h2
      refine lv_iload C.x C.b dX3_manyAt_26 (lv_at hl 5 rfl) ?_
      refine lv_aload_n C.x C.b dX3_manyAt_28 rfl (lv_at hl 0 rfl) ?_
      refine lv_iload_n C.x C.b dX3_manyAt_29 rfl (lv_at hl 1 rfl) ?_
      refine lv_iload C.x C.b dX3_manyAt_30 (lv_at hl 7 rfl) ?_
      refine z_callV C hR hS hl (n := 2) (C1 := RX3) (T := TX3) (N := 35) (ci := 3) (y := yX3_at) (bytes := cX3_at) (maxL := 3) (rt := (some .int)) (As := [.int x1, .int x7]) (rest := [.int x5]) h.1 rfl (lw_V q1816 q1818 qs39 q82 q1819) hdV_X3_at (by decide) rfl rfl (Nat.le_of_ble_eq_true rfl) dX3_manyAt_32 h.2 (fun r g_3 hk_ => ?_) (fun x g1 h => z_out C hQ h)
      clear h; obtain ⟨v_4, rfl, h⟩ := hk_
      show GW X E 8 g_3 35 [(0, .ref a0), (1, .int x1), (2, .int x2), (3, .int x3), (4, .int x4), (5, .int x5), (6, .int x6), (7, .int x7)] [.int v_4, .int x5]
      intro H locs ls hR hS hl
      refine lv_iconst (v := 1) C.x C.b dX3_manyAt_35 (by decide) ?_
      obtain ⟨h1, h2⟩ := h
      refine lv_icmp_ne (tgt := 43) C.x C.b dX3_manyAt_36 (by decide) (fun c => ?_) (fun c => ?_)
      · have h := h1 c; clear h1 h2
        refine lv_iconst (v := 0) C.x C.b dX3_manyAt_43 (by decide) ?_
        exact h H locs ls hR hS (lv_sub hl [0, 1, 2, 3, 4, 6, 7] rfl)
      · have h := h2 c; clear h1 h2
        refine lv_iconst (v := 1) C.x C.b dX3_manyAt_39 (by decide) ?_
        refine lv_goto (tgt := 44) C.x C.b dX3_manyAt_40 (by decide) ?_
        exact h H locs ls hR hS (lv_sub hl [0, 1, 2, 3, 4, 6, 7] rfl)
set_option maxHeartbeats 4000000 in
theorem bX3_manyAt_44 {X : zX} {d : Nat} {E : zM} {K : Option Value → zG → Prop} {KX : String → zG → Prop} (C : zC X (d + 1) E RX3 cX3_manyAt 8 (some .int) "manyAt") (hQ : zQ X E K KX) (g : zG) (a0 : Nat) (x1 : Int32) (x2 : Int32) (x3 : Int32) (x4 : Int32) (x6 : Int32) (x7 : Int32) (t0 : Int32) (t1 : Int32) (h : zIs g 3 a0 ∧ zCal X d yX3_at wX3_at [.ref a0, .int x1, .int x7] g (fun r g_1 => ∃ v_2 : Int32, r = some (.int v_2) ∧ (¬ v_2 = 0 → GW X E 8 g_1 9 [(0, .ref a0), (1, .int x1), (2, .int x2), (3, .int x3), (4, .int x4), (5, .int (t0 + t1)), (6, .int (x6 + 1)), (7, .int (x7 + (-1)))] []) ∧ (v_2 = 0 → GW X E 8 g_1 9 [(0, .ref a0), (1, .int x1), (2, .int x2), (3, .int x3), (4, .int x4), (5, .int (t0 + t1)), (6, .int (x6 + 0)), (7, .int (x7 + (-1)))] [])) KX) : GW X E 8 g 44 [(0, .ref a0), (1, .int x1), (2, .int x2), (3, .int x3), (4, .int x4), (6, .int x6), (7, .int x7)] [.int t1, .int t0] := by
  intro H locs ls hR hS hl
  refine lv_iadd C.x C.b dX3_manyAt_44 ?_
  refine lv_istore (lv' := [(5, .int (t0 + t1)), (0, .ref a0), (1, .int x1), (2, .int x2), (3, .int x3), (4, .int x4), (6, .int x6), (7, .int x7)]) C.x C.b dX3_manyAt_45 hl (by decide) rfl (fun ls hl => ?_)
  refine lv_iload C.x C.b dX3_manyAt_47 (lv_at hl 6 rfl) ?_
  refine lv_aload_n C.x C.b dX3_manyAt_49 rfl (lv_at hl 1 rfl) ?_
  refine lv_iload_n C.x C.b dX3_manyAt_50 rfl (lv_at hl 2 rfl) ?_
  refine lv_iload C.x C.b dX3_manyAt_51 (lv_at hl 7 rfl) ?_
  refine z_callV C hR hS hl (n := 2) (C1 := RX3) (T := TX3) (N := 35) (ci := 3) (y := yX3_at) (bytes := cX3_at) (maxL := 3) (rt := (some .int)) (As := [.int x1, .int x7]) (rest := [.int x6]) h.1 rfl (lw_V q1816 q1818 qs39 q82 q1819) hdV_X3_at (by decide) rfl rfl (Nat.le_of_ble_eq_true rfl) dX3_manyAt_53 h.2 (fun r g_1 hk_ => ?_) (fun x g1 h => z_out C hQ h)
  clear h; obtain ⟨v_2, rfl, h⟩ := hk_
  show GW X E 8 g_1 56 [(5, .int (t0 + t1)), (0, .ref a0), (1, .int x1), (2, .int x2), (3, .int x3), (4, .int x4), (6, .int x6), (7, .int x7)] [.int v_2, .int x6]
  intro H locs ls hR hS hl
  obtain ⟨h1, h2⟩ := h
  refine lv_if_ne (tgt := 63) C.x C.b dX3_manyAt_56 (by decide) (fun c => ?_) (fun c => ?_)
  · have h := h1 c; clear h1 h2
    refine lv_iconst (v := 1) C.x C.b dX3_manyAt_63 (by decide) ?_
    refine lv_iadd C.x C.b dX3_manyAt_64 ?_
    refine lv_istore (lv' := [(6, .int (x6 + 1)), (5, .int (t0 + t1)), (0, .ref a0), (1, .int x1), (2, .int x2), (3, .int x3), (4, .int x4), (7, .int x7)]) C.x C.b dX3_manyAt_65 hl (by decide) rfl (fun ls hl => ?_)
    refine lv_iinc (v := x7 + (-1)) (lv' := [(7, .int (x7 + (-1))), (6, .int (x6 + 1)), (5, .int (t0 + t1)), (0, .ref a0), (1, .int x1), (2, .int x2), (3, .int x3), (4, .int x4)]) C.x C.b dX3_manyAt_67 hl (k := 7) rfl rfl (by decide) rfl (fun ls hl => ?_)
    refine lv_goto (tgt := 9) C.x C.b dX3_manyAt_70 (by decide) ?_
    exact h H locs ls hR hS (lv_sub hl [3, 4, 5, 6, 7, 2, 1, 0] rfl)
  · have h := h2 c; clear h1 h2
    refine lv_iconst (v := 0) C.x C.b dX3_manyAt_59 (by decide) ?_
    refine lv_goto (tgt := 64) C.x C.b dX3_manyAt_60 (by decide) ?_
    refine lv_iadd C.x C.b dX3_manyAt_64 ?_
    refine lv_istore (lv' := [(6, .int (x6 + 0)), (5, .int (t0 + t1)), (0, .ref a0), (1, .int x1), (2, .int x2), (3, .int x3), (4, .int x4), (7, .int x7)]) C.x C.b dX3_manyAt_65 hl (by decide) rfl (fun ls hl => ?_)
    refine lv_iinc (v := x7 + (-1)) (lv' := [(7, .int (x7 + (-1))), (6, .int (x6 + 0)), (5, .int (t0 + t1)), (0, .ref a0), (1, .int x1), (2, .int x2), (3, .int x3), (4, .int x4)]) C.x C.b dX3_manyAt_67 hl (k := 7) rfl rfl (by decide) rfl (fun ls hl => ?_)
    refine lv_goto (tgt := 9) C.x C.b dX3_manyAt_70 (by decide) ?_
    exact h H locs ls hR hS (lv_sub hl [3, 4, 5, 6, 7, 2, 1, 0] rfl)
set_option maxHeartbeats 4000000 in
theorem mX3_manyAt {X : zX} {d : Nat} {g : zG} {K : Option Value → zG → Prop} {KX : String → zG → Prop} (hok : zOk X) (a0 : Nat) (x1 : Int32) (x2 : Int32) (x3 : Int32) (x4 : Int32) (h : ∀ E : zM, zC X (d + 1) E RX3 cX3_manyAt 8 (some .int) "manyAt" → zQ X E K KX → GW X E 8 g 9 [(0, .ref a0), (1, .int x1), (2, .int x2), (3, .int x3), (4, .int x4), (5, .int 0), (6, .int 0), (7, .int x2)] []) : zCal X (d + 1) yX3_manyAt wX3_manyAt [.ref a0, .int x1, .int x2, .int x3, .int x4] g K KX := by
  refine z_enter hok pn_X3 (Nat.le_of_ble_eq_true rfl) (fun E C hQ => ?_)
  have C : zC X (d + 1) E RX3 cX3_manyAt 8 (some .int) "manyAt" := C
  have h := h E C hQ
  show GW X E 8 g 0 [(0, .ref a0), (1, .int x1), (2, .int x2), (3, .int x3), (4, .int x4)] []
  intro H locs ls hR hS hl
  refine lv_iconst (v := 0) C.x C.b dX3_manyAt_0 (by decide) ?_
  refine lv_istore (lv' := [(5, .int 0), (0, .ref a0), (1, .int x1), (2, .int x2), (3, .int x3), (4, .int x4)]) C.x C.b dX3_manyAt_1 hl (by decide) rfl (fun ls hl => ?_)
  refine lv_iconst (v := 0) C.x C.b dX3_manyAt_3 (by decide) ?_
  refine lv_istore (lv' := [(6, .int 0), (5, .int 0), (0, .ref a0), (1, .int x1), (2, .int x2), (3, .int x3), (4, .int x4)]) C.x C.b dX3_manyAt_4 hl (by decide) rfl (fun ls hl => ?_)
  refine lv_iload_n C.x C.b dX3_manyAt_6 rfl (lv_at hl 4 rfl) ?_
  refine lv_istore (lv' := [(7, .int x2), (6, .int 0), (5, .int 0), (0, .ref a0), (1, .int x1), (2, .int x2), (3, .int x3), (4, .int x4)]) C.x C.b dX3_manyAt_7 hl (by decide) rfl (fun ls hl => ?_)
  exact h H locs ls hR hS (lv_sub hl [3, 4, 5, 6, 7, 2, 1, 0] rfl)
set_option maxHeartbeats 4000000 in
theorem mX3_not {X : zX} {d : Nat} {g : zG} {K : Option Value → zG → Prop} {KX : String → zG → Prop} (hok : zOk X) (x0 : Int32) (h : (¬ x0 = 2 → K (some (.int (1 - x0))) g) ∧ (x0 = 2 → K (some (.int 2)) g)) : zCal X d yX3_not wX3_not [.int x0] g K KX := by
  refine z_enter hok pn_X3 (Nat.le_of_ble_eq_true rfl) (fun E C hQ => ?_)
  have C : zC X d E RX3 cX3_not 1 (some .int) "not" := C
  show GW X E 1 g 0 [(0, .int x0)] []
  intro H locs ls hR hS hl
  refine lv_iload_n C.x C.b dX3_not_0 rfl (lv_at hl 0 rfl) ?_
  refine lv_iconst (v := 2) C.x C.b dX3_not_1 (by decide) ?_
  obtain ⟨h1, h2⟩ := h
  refine lv_icmp_ne (tgt := 9) C.x C.b dX3_not_2 (by decide) (fun c => ?_) (fun c => ?_)
  · have h := h1 c; clear h1 h2
    refine lv_iconst (v := 1) C.x C.b dX3_not_9 (by decide) ?_
    refine lv_iload_n C.x C.b dX3_not_10 rfl (lv_at hl 0 rfl) ?_
    refine lv_isub C.x C.b dX3_not_11 ?_
    exact z_iret C hQ dX3_not_12 h H locs ls hR hS hl
  · have h := h2 c; clear h1 h2
    refine lv_iconst (v := 2) C.x C.b dX3_not_5 (by decide) ?_
    refine lv_goto (tgt := 12) C.x C.b dX3_not_6 (by decide) ?_
    exact z_iret C hQ dX3_not_12 h H locs ls hR hS hl
set_option maxHeartbeats 4000000 in
theorem mX3_or {X : zX} {d : Nat} {g : zG} {K : Option Value → zG → Prop} {KX : String → zG → Prop} (hok : zOk X) (x0 : Int32) (x1 : Int32) (h : (x0 = 1 → K (some (.int 1)) g) ∧ (¬ x0 = 1 → (¬ x1 = 1 → (x0 = 2 → K (some (.int 2)) g) ∧ (¬ x0 = 2 → (¬ x1 = 2 → K (some (.int 0)) g) ∧ (x1 = 2 → K (some (.int 2)) g))) ∧ (x1 = 1 → K (some (.int 1)) g))) : zCal X d yX3_or wX3_or [.int x0, .int x1] g K KX := by
  refine z_enter hok pn_X3 (Nat.le_of_ble_eq_true rfl) (fun E C hQ => ?_)
  have C : zC X d E RX3 cX3_or 2 (some .int) "or" := C
  show GW X E 2 g 0 [(0, .int x0), (1, .int x1)] []
  intro H locs ls hR hS hl
  refine lv_iload_n C.x C.b dX3_or_0 rfl (lv_at hl 0 rfl) ?_
  refine lv_iconst (v := 1) C.x C.b dX3_or_1 (by decide) ?_
  obtain ⟨h1, h2⟩ := h
  refine lv_icmp_eq (tgt := 10) C.x C.b dX3_or_2 (by decide) (fun c => ?_) (fun c => ?_)
  · have h := h1 c; clear h1 h2
    refine lv_iconst (v := 1) C.x C.b dX3_or_10 (by decide) ?_
    refine lv_goto (tgt := 29) C.x C.b dX3_or_11 (by decide) ?_
    exact z_iret C hQ dX3_or_29 h H locs ls hR hS hl
  · have h := h2 c; clear h1 h2
    refine lv_iload_n C.x C.b dX3_or_5 rfl (lv_at hl 1 rfl) ?_
    refine lv_iconst (v := 1) C.x C.b dX3_or_6 (by decide) ?_
    obtain ⟨h1, h2⟩ := h
    refine lv_icmp_ne (tgt := 14) C.x C.b dX3_or_7 (by decide) (fun c => ?_) (fun c => ?_)
    · have h := h1 c; clear h1 h2
      refine lv_iload_n C.x C.b dX3_or_14 rfl (lv_at hl 0 rfl) ?_
      refine lv_iconst (v := 2) C.x C.b dX3_or_15 (by decide) ?_
      obtain ⟨h1, h2⟩ := h
      refine lv_icmp_eq (tgt := 24) C.x C.b dX3_or_16 (by decide) (fun c => ?_) (fun c => ?_)
      · have h := h1 c; clear h1 h2
        refine lv_iconst (v := 2) C.x C.b dX3_or_24 (by decide) ?_
        refine lv_goto (tgt := 29) C.x C.b dX3_or_25 (by decide) ?_
        exact z_iret C hQ dX3_or_29 h H locs ls hR hS hl
      · have h := h2 c; clear h1 h2
        refine lv_iload_n C.x C.b dX3_or_19 rfl (lv_at hl 1 rfl) ?_
        refine lv_iconst (v := 2) C.x C.b dX3_or_20 (by decide) ?_
        obtain ⟨h1, h2⟩ := h
        refine lv_icmp_ne (tgt := 28) C.x C.b dX3_or_21 (by decide) (fun c => ?_) (fun c => ?_)
        · have h := h1 c; clear h1 h2
          refine lv_iconst (v := 0) C.x C.b dX3_or_28 (by decide) ?_
          exact z_iret C hQ dX3_or_29 h H locs ls hR hS hl
        · have h := h2 c; clear h1 h2
          refine lv_iconst (v := 2) C.x C.b dX3_or_24 (by decide) ?_
          refine lv_goto (tgt := 29) C.x C.b dX3_or_25 (by decide) ?_
          exact z_iret C hQ dX3_or_29 h H locs ls hR hS hl
    · have h := h2 c; clear h1 h2
      refine lv_iconst (v := 1) C.x C.b dX3_or_10 (by decide) ?_
      refine lv_goto (tgt := 29) C.x C.b dX3_or_11 (by decide) ?_
      exact z_iret C hQ dX3_or_29 h H locs ls hR hS hl
theorem hdS_X3_or : yX3_or.cls ≠ "java/lang/invoke/MethodHandle" ∧ yX3_or.cls ≠ "java/lang/invoke/VarHandle" ∧ (parseMethodDescriptor yX3_or.desc).map (fun d => d.parameters.length) = some 2 := by decide +kernel
set_option maxHeartbeats 4000000 in
theorem bX3_onceAt_6 {X : zX} {d : Nat} {E : zM} {K : Option Value → zG → Prop} {KX : String → zG → Prop} (C : zC X (d + 1) E RX3 cX3_onceAt 6 (some .int) "onceAt") (hQ : zQ X E K KX) (g : zG) (a0 : Nat) (x1 : Int32) (x2 : Int32) (x3 : Int32) (x4 : Int32) (x5 : Int32) (h : (x5 < 0 → K (some (.int x4)) g) ∧ (¬ x5 < 0 → zIs g 3 a0 ∧ zCal X d yX3_isNear wX3_isNear [.ref a0, .int x5, .int x2, .int x3] g (fun r g_1 => ∃ v_2 : Int32, r = some (.int v_2) ∧ zbo v_2 ∧ (v_2 = 0 → K (some (.int x4)) g_1) ∧ (¬ v_2 = 0 → zIs g_1 3 a0 ∧ zCal X d yX3_at wX3_at [.ref a0, .int x1, .int x5] g_1 (fun r g_3 => ∃ v_4 : Int32, r = some (.int v_4) ∧ zCal X d yX3_or wX3_or [.int x4, .int v_4] g_3 (fun r g_5 => ∃ v_6 : Int32, r = some (.int v_6) ∧ GW X E 6 g_5 6 [(0, .ref a0), (1, .int x1), (2, .int x2), (3, .int x3), (4, .int v_6), (5, .int (x5 + (-1)))] []) KX) KX)) KX)) : GW X E 6 g 6 [(0, .ref a0), (1, .int x1), (2, .int x2), (3, .int x3), (4, .int x4), (5, .int x5)] [] := by
  intro H locs ls hR hS hl
  refine lv_iload C.x C.b dX3_onceAt_6 (lv_at hl 5 rfl) ?_
  obtain ⟨h1, h2⟩ := h
  refine lv_if_lt (tgt := 42) C.x C.b dX3_onceAt_8 (by decide) (fun c => ?_) (fun c => ?_)
  · have h := h1 c; clear h1 h2
    refine lv_iload C.x C.b dX3_onceAt_42 (lv_at hl 4 rfl) ?_
    exact z_iret C hQ dX3_onceAt_44 h H locs ls hR hS hl
  · have h := h2 c; clear h1 h2
    refine lv_aload_n C.x C.b dX3_onceAt_11 rfl (lv_at hl 0 rfl) ?_
    refine lv_iload C.x C.b dX3_onceAt_12 (lv_at hl 5 rfl) ?_
    refine lv_iload_n C.x C.b dX3_onceAt_14 rfl (lv_at hl 2 rfl) ?_
    refine lv_iload_n C.x C.b dX3_onceAt_15 rfl (lv_at hl 3 rfl) ?_
    refine z_callV C hR hS hl (n := 3) (C1 := RX3) (T := TX3) (N := 35) (ci := 3) (y := yX3_isNear) (bytes := cX3_isNear) (maxL := 4) (rt := (some .boolean)) (As := [.int x5, .int x2, .int x3]) (rest := []) h.1 rfl (lw_V q1833 q1835 qs41 q82 q1836) hdV_X3_isNear (by decide) rfl rfl (Nat.le_of_ble_eq_true rfl) dX3_onceAt_16 h.2 (fun r g_1 hk_ => ?_) (fun x g1 h => z_out C hQ h)
    clear h; obtain ⟨v_2, rfl, zb_, h⟩ := hk_
    show GW X E 6 g_1 19 [(0, .ref a0), (1, .int x1), (2, .int x2), (3, .int x3), (4, .int x4), (5, .int x5)] [.int v_2]
    intro H locs ls hR hS hl
    obtain ⟨h1, h2⟩ := h
    refine lv_if_eq (tgt := 42) C.x C.b dX3_onceAt_19 (by decide) (fun c => ?_) (fun c => ?_)
    · have h := h1 c; clear h1 h2
      refine lv_iload C.x C.b dX3_onceAt_42 (lv_at hl 4 rfl) ?_
      exact z_iret C hQ dX3_onceAt_44 h H locs ls hR hS hl
    · have h := h2 c; clear h1 h2
      refine lv_iload C.x C.b dX3_onceAt_22 (lv_at hl 4 rfl) ?_
      refine lv_aload_n C.x C.b dX3_onceAt_24 rfl (lv_at hl 0 rfl) ?_
      refine lv_iload_n C.x C.b dX3_onceAt_25 rfl (lv_at hl 1 rfl) ?_
      refine lv_iload C.x C.b dX3_onceAt_26 (lv_at hl 5 rfl) ?_
      refine z_callV C hR hS hl (n := 2) (C1 := RX3) (T := TX3) (N := 35) (ci := 3) (y := yX3_at) (bytes := cX3_at) (maxL := 3) (rt := (some .int)) (As := [.int x1, .int x5]) (rest := [.int x4]) h.1 rfl (lw_V q1816 q1818 qs39 q82 q1819) hdV_X3_at (by decide) rfl rfl (Nat.le_of_ble_eq_true rfl) dX3_onceAt_28 h.2 (fun r g_3 hk_ => ?_) (fun x g1 h => z_out C hQ h)
      clear h; obtain ⟨v_4, rfl, h⟩ := hk_
      show GW X E 6 g_3 31 [(0, .ref a0), (1, .int x1), (2, .int x2), (3, .int x3), (4, .int x4), (5, .int x5)] [.int v_4, .int x4]
      intro H locs ls hR hS hl
      refine z_callS C hR hS hl (n := 2) (y := yX3_or) (bytes := cX3_or) (maxL := 2) (rt := (some .int)) (As := [.int x4, .int v_4]) (rest := []) (lw_S q1826 q1827 q82 q1828) hdS_X3_or (by decide) rfl rfl (Nat.le_of_ble_eq_true rfl) dX3_onceAt_31 h (fun r g_5 hk_ => ?_) (fun x g1 h => z_out C hQ h)
      clear h; obtain ⟨v_6, rfl, h⟩ := hk_
      show GW X E 6 g_5 34 [(0, .ref a0), (1, .int x1), (2, .int x2), (3, .int x3), (4, .int x4), (5, .int x5)] [.int v_6]
      intro H locs ls hR hS hl
      refine lv_istore (lv' := [(4, .int v_6), (0, .ref a0), (1, .int x1), (2, .int x2), (3, .int x3), (5, .int x5)]) C.x C.b dX3_onceAt_34 hl (by decide) rfl (fun ls hl => ?_)
      refine lv_iinc (v := x5 + (-1)) (lv' := [(5, .int (x5 + (-1))), (4, .int v_6), (0, .ref a0), (1, .int x1), (2, .int x2), (3, .int x3)]) C.x C.b dX3_onceAt_36 hl (k := 5) rfl rfl (by decide) rfl (fun ls hl => ?_)
      refine lv_goto (tgt := 6) C.x C.b dX3_onceAt_39 (by decide) ?_
      exact h H locs ls hR hS (lv_sub hl [2, 3, 4, 5, 1, 0] rfl)
set_option maxHeartbeats 4000000 in
theorem mX3_onceAt {X : zX} {d : Nat} {g : zG} {K : Option Value → zG → Prop} {KX : String → zG → Prop} (hok : zOk X) (a0 : Nat) (x1 : Int32) (x2 : Int32) (x3 : Int32) (h : ∀ E : zM, zC X (d + 1) E RX3 cX3_onceAt 6 (some .int) "onceAt" → zQ X E K KX → GW X E 6 g 6 [(0, .ref a0), (1, .int x1), (2, .int x2), (3, .int x3), (4, .int 0), (5, .int x2)] []) : zCal X (d + 1) yX3_onceAt wX3_onceAt [.ref a0, .int x1, .int x2, .int x3] g K KX := by
  refine z_enter hok pn_X3 (Nat.le_of_ble_eq_true rfl) (fun E C hQ => ?_)
  have C : zC X (d + 1) E RX3 cX3_onceAt 6 (some .int) "onceAt" := C
  have h := h E C hQ
  show GW X E 6 g 0 [(0, .ref a0), (1, .int x1), (2, .int x2), (3, .int x3)] []
  intro H locs ls hR hS hl
  refine lv_iconst (v := 0) C.x C.b dX3_onceAt_0 (by decide) ?_
  refine lv_istore (lv' := [(4, .int 0), (0, .ref a0), (1, .int x1), (2, .int x2), (3, .int x3)]) C.x C.b dX3_onceAt_1 hl (by decide) rfl (fun ls hl => ?_)
  refine lv_iload_n C.x C.b dX3_onceAt_3 rfl (lv_at hl 3 rfl) ?_
  refine lv_istore (lv' := [(5, .int x2), (4, .int 0), (0, .ref a0), (1, .int x1), (2, .int x2), (3, .int x3)]) C.x C.b dX3_onceAt_4 hl (by decide) rfl (fun ls hl => ?_)
  exact h H locs ls hR hS (lv_sub hl [2, 3, 4, 5, 1, 0] rfl)
theorem hdS_X3_and : yX3_and.cls ≠ "java/lang/invoke/MethodHandle" ∧ yX3_and.cls ≠ "java/lang/invoke/VarHandle" ∧ (parseMethodDescriptor yX3_and.desc).map (fun d => d.parameters.length) = some 2 := by decide +kernel
set_option maxHeartbeats 4000000 in
theorem bX3_sinceAt_9 {X : zX} {d : Nat} {E : zM} {K : Option Value → zG → Prop} {KX : String → zG → Prop} (C : zC X (d + 1) E RX3 cX3_sinceAt 8 (some .int) "sinceAt") (hQ : zQ X E K KX) (g : zG) (a0 : Nat) (x1 : Int32) (x2 : Int32) (x3 : Int32) (x4 : Int32) (x5 : Int32) (x6 : Int32) (x7 : Int32) (h : (x7 < 0 → K (some (.int x5)) g) ∧ (¬ x7 < 0 → zIs g 3 a0 ∧ zCal X d yX3_isNear wX3_isNear [.ref a0, .int x7, .int x3, .int x4] g (fun r g_1 => ∃ v_2 : Int32, r = some (.int v_2) ∧ zbo v_2 ∧ (v_2 = 0 → K (some (.int x5)) g_1) ∧ (¬ v_2 = 0 → zIs g_1 3 a0 ∧ zCal X d yX3_at wX3_at [.ref a0, .int x2, .int x7] g_1 (fun r g_3 => ∃ v_4 : Int32, r = some (.int v_4) ∧ zCal X d yX3_and wX3_and [.int v_4, .int x6] g_3 (fun r g_5 => ∃ v_6 : Int32, r = some (.int v_6) ∧ zCal X d yX3_or wX3_or [.int x5, .int v_6] g_5 (fun r g_7 => ∃ v_8 : Int32, r = some (.int v_8) ∧ zIs g_7 3 a0 ∧ zCal X d yX3_at wX3_at [.ref a0, .int x1, .int x7] g_7 (fun r g_9 => ∃ v_10 : Int32, r = some (.int v_10) ∧ zCal X d yX3_and wX3_and [.int x6, .int v_10] g_9 (fun r g_11 => ∃ v_12 : Int32, r = some (.int v_12) ∧ GW X E 8 g_11 9 [(0, .ref a0), (1, .int x1), (2, .int x2), (3, .int x3), (4, .int x4), (5, .int v_8), (6, .int v_12), (7, .int (x7 + (-1)))] []) KX) KX) KX) KX) KX)) KX)) : GW X E 8 g 9 [(0, .ref a0), (1, .int x1), (2, .int x2), (3, .int x3), (4, .int x4), (5, .int x5), (6, .int x6), (7, .int x7)] [] := by
  intro H locs ls hR hS hl
  refine lv_iload C.x C.b dX3_sinceAt_9 (lv_at hl 7 rfl) ?_
  obtain ⟨h1, h2⟩ := h
  refine lv_if_lt (tgt := 65) C.x C.b dX3_sinceAt_11 (by decide) (fun c => ?_) (fun c => ?_)
  · have h := h1 c; clear h1 h2
    refine lv_iload C.x C.b dX3_sinceAt_65 (lv_at hl 5 rfl) ?_
    exact z_iret C hQ dX3_sinceAt_67 h H locs ls hR hS hl
  · have h := h2 c; clear h1 h2
    refine lv_aload_n C.x C.b dX3_sinceAt_14 rfl (lv_at hl 0 rfl) ?_
    refine lv_iload C.x C.b dX3_sinceAt_15 (lv_at hl 7 rfl) ?_
    refine lv_iload_n C.x C.b dX3_sinceAt_17 rfl (lv_at hl 3 rfl) ?_
    refine lv_iload C.x C.b dX3_sinceAt_18 (lv_at hl 4 rfl) ?_
    refine z_callV C hR hS hl (n := 3) (C1 := RX3) (T := TX3) (N := 35) (ci := 3) (y := yX3_isNear) (bytes := cX3_isNear) (maxL := 4) (rt := (some .boolean)) (As := [.int x7, .int x3, .int x4]) (rest := []) h.1 rfl (lw_V q1833 q1835 qs41 q82 q1836) hdV_X3_isNear (by decide) rfl rfl (Nat.le_of_ble_eq_true rfl) dX3_sinceAt_20 h.2 (fun r g_1 hk_ => ?_) (fun x g1 h => z_out C hQ h)
    clear h; obtain ⟨v_2, rfl, zb_, h⟩ := hk_
    show GW X E 8 g_1 23 [(0, .ref a0), (1, .int x1), (2, .int x2), (3, .int x3), (4, .int x4), (5, .int x5), (6, .int x6), (7, .int x7)] [.int v_2]
    intro H locs ls hR hS hl
    obtain ⟨h1, h2⟩ := h
    refine lv_if_eq (tgt := 65) C.x C.b dX3_sinceAt_23 (by decide) (fun c => ?_) (fun c => ?_)
    · have h := h1 c; clear h1 h2
      refine lv_iload C.x C.b dX3_sinceAt_65 (lv_at hl 5 rfl) ?_
      exact z_iret C hQ dX3_sinceAt_67 h H locs ls hR hS hl
    · have h := h2 c; clear h1 h2
      refine lv_iload C.x C.b dX3_sinceAt_26 (lv_at hl 5 rfl) ?_
      refine lv_aload_n C.x C.b dX3_sinceAt_28 rfl (lv_at hl 0 rfl) ?_
      refine lv_iload_n C.x C.b dX3_sinceAt_29 rfl (lv_at hl 2 rfl) ?_
      refine lv_iload C.x C.b dX3_sinceAt_30 (lv_at hl 7 rfl) ?_
      refine z_callV C hR hS hl (n := 2) (C1 := RX3) (T := TX3) (N := 35) (ci := 3) (y := yX3_at) (bytes := cX3_at) (maxL := 3) (rt := (some .int)) (As := [.int x2, .int x7]) (rest := [.int x5]) h.1 rfl (lw_V q1816 q1818 qs39 q82 q1819) hdV_X3_at (by decide) rfl rfl (Nat.le_of_ble_eq_true rfl) dX3_sinceAt_32 h.2 (fun r g_3 hk_ => ?_) (fun x g1 h => z_out C hQ h)
      clear h; obtain ⟨v_4, rfl, h⟩ := hk_
      show GW X E 8 g_3 35 [(0, .ref a0), (1, .int x1), (2, .int x2), (3, .int x3), (4, .int x4), (5, .int x5), (6, .int x6), (7, .int x7)] [.int v_4, .int x5]
      intro H locs ls hR hS hl
      refine lv_iload C.x C.b dX3_sinceAt_35 (lv_at hl 6 rfl) ?_
      refine z_callS C hR hS hl (n := 2) (y := yX3_and) (bytes := cX3_and) (maxL := 2) (rt := (some .int)) (As := [.int v_4, .int x6]) (rest := [.int x5]) (lw_S q1823 q1824 q82 q1825) hdS_X3_and (by decide) rfl rfl (Nat.le_of_ble_eq_true rfl) dX3_sinceAt_37 h (fun r g_5 hk_ => ?_) (fun x g1 h => z_out C hQ h)
      clear h; obtain ⟨v_6, rfl, h⟩ := hk_
      show GW X E 8 g_5 40 [(0, .ref a0), (1, .int x1), (2, .int x2), (3, .int x3), (4, .int x4), (5, .int x5), (6, .int x6), (7, .int x7)] [.int v_6, .int x5]
      intro H locs ls hR hS hl
      refine z_callS C hR hS hl (n := 2) (y := yX3_or) (bytes := cX3_or) (maxL := 2) (rt := (some .int)) (As := [.int x5, .int v_6]) (rest := []) (lw_S q1826 q1827 q82 q1828) hdS_X3_or (by decide) rfl rfl (Nat.le_of_ble_eq_true rfl) dX3_sinceAt_40 h (fun r g_7 hk_ => ?_) (fun x g1 h => z_out C hQ h)
      clear h; obtain ⟨v_8, rfl, h⟩ := hk_
      show GW X E 8 g_7 43 [(0, .ref a0), (1, .int x1), (2, .int x2), (3, .int x3), (4, .int x4), (5, .int x5), (6, .int x6), (7, .int x7)] [.int v_8]
      intro H locs ls hR hS hl
      refine lv_istore (lv' := [(5, .int v_8), (0, .ref a0), (1, .int x1), (2, .int x2), (3, .int x3), (4, .int x4), (6, .int x6), (7, .int x7)]) C.x C.b dX3_sinceAt_43 hl (by decide) rfl (fun ls hl => ?_)
      refine lv_iload C.x C.b dX3_sinceAt_45 (lv_at hl 6 rfl) ?_
      refine lv_aload_n C.x C.b dX3_sinceAt_47 rfl (lv_at hl 1 rfl) ?_
      refine lv_iload_n C.x C.b dX3_sinceAt_48 rfl (lv_at hl 2 rfl) ?_
      refine lv_iload C.x C.b dX3_sinceAt_49 (lv_at hl 7 rfl) ?_
      refine z_callV C hR hS hl (n := 2) (C1 := RX3) (T := TX3) (N := 35) (ci := 3) (y := yX3_at) (bytes := cX3_at) (maxL := 3) (rt := (some .int)) (As := [.int x1, .int x7]) (rest := [.int x6]) h.1 rfl (lw_V q1816 q1818 qs39 q82 q1819) hdV_X3_at (by decide) rfl rfl (Nat.le_of_ble_eq_true rfl) dX3_sinceAt_51 h.2 (fun r g_9 hk_ => ?_) (fun x g1 h => z_out C hQ h)
      clear h; obtain ⟨v_10, rfl, h⟩ := hk_
      show GW X E 8 g_9 54 [(5, .int v_8), (0, .ref a0), (1, .int x1), (2, .int x2), (3, .int x3), (4, .int x4), (6, .int x6), (7, .int x7)] [.int v_10, .int x6]
      intro H locs ls hR hS hl
      refine z_callS C hR hS hl (n := 2) (y := yX3_and) (bytes := cX3_and) (maxL := 2) (rt := (some .int)) (As := [.int x6, .int v_10]) (rest := []) (lw_S q1823 q1824 q82 q1825) hdS_X3_and (by decide) rfl rfl (Nat.le_of_ble_eq_true rfl) dX3_sinceAt_54 h (fun r g_11 hk_ => ?_) (fun x g1 h => z_out C hQ h)
      clear h; obtain ⟨v_12, rfl, h⟩ := hk_
      show GW X E 8 g_11 57 [(5, .int v_8), (0, .ref a0), (1, .int x1), (2, .int x2), (3, .int x3), (4, .int x4), (6, .int x6), (7, .int x7)] [.int v_12]
      intro H locs ls hR hS hl
      refine lv_istore (lv' := [(6, .int v_12), (5, .int v_8), (0, .ref a0), (1, .int x1), (2, .int x2), (3, .int x3), (4, .int x4), (7, .int x7)]) C.x C.b dX3_sinceAt_57 hl (by decide) rfl (fun ls hl => ?_)
      refine lv_iinc (v := x7 + (-1)) (lv' := [(7, .int (x7 + (-1))), (6, .int v_12), (5, .int v_8), (0, .ref a0), (1, .int x1), (2, .int x2), (3, .int x3), (4, .int x4)]) C.x C.b dX3_sinceAt_59 hl (k := 7) rfl rfl (by decide) rfl (fun ls hl => ?_)
      refine lv_goto (tgt := 9) C.x C.b dX3_sinceAt_62 (by decide) ?_
      exact h H locs ls hR hS (lv_sub hl [3, 4, 5, 6, 7, 2, 1, 0] rfl)
set_option maxHeartbeats 4000000 in
theorem mX3_sinceAt {X : zX} {d : Nat} {g : zG} {K : Option Value → zG → Prop} {KX : String → zG → Prop} (hok : zOk X) (a0 : Nat) (x1 : Int32) (x2 : Int32) (x3 : Int32) (x4 : Int32) (h : ∀ E : zM, zC X (d + 1) E RX3 cX3_sinceAt 8 (some .int) "sinceAt" → zQ X E K KX → GW X E 8 g 9 [(0, .ref a0), (1, .int x1), (2, .int x2), (3, .int x3), (4, .int x4), (5, .int 0), (6, .int 1), (7, .int x3)] []) : zCal X (d + 1) yX3_sinceAt wX3_sinceAt [.ref a0, .int x1, .int x2, .int x3, .int x4] g K KX := by
  refine z_enter hok pn_X3 (Nat.le_of_ble_eq_true rfl) (fun E C hQ => ?_)
  have C : zC X (d + 1) E RX3 cX3_sinceAt 8 (some .int) "sinceAt" := C
  have h := h E C hQ
  show GW X E 8 g 0 [(0, .ref a0), (1, .int x1), (2, .int x2), (3, .int x3), (4, .int x4)] []
  intro H locs ls hR hS hl
  refine lv_iconst (v := 0) C.x C.b dX3_sinceAt_0 (by decide) ?_
  refine lv_istore (lv' := [(5, .int 0), (0, .ref a0), (1, .int x1), (2, .int x2), (3, .int x3), (4, .int x4)]) C.x C.b dX3_sinceAt_1 hl (by decide) rfl (fun ls hl => ?_)
  refine lv_iconst (v := 1) C.x C.b dX3_sinceAt_3 (by decide) ?_
  refine lv_istore (lv' := [(6, .int 1), (5, .int 0), (0, .ref a0), (1, .int x1), (2, .int x2), (3, .int x3), (4, .int x4)]) C.x C.b dX3_sinceAt_4 hl (by decide) rfl (fun ls hl => ?_)
  refine lv_iload_n C.x C.b dX3_sinceAt_6 rfl (lv_at hl 5 rfl) ?_
  refine lv_istore (lv' := [(7, .int x3), (6, .int 1), (5, .int 0), (0, .ref a0), (1, .int x1), (2, .int x2), (3, .int x3), (4, .int x4)]) C.x C.b dX3_sinceAt_7 hl (by decide) rfl (fun ls hl => ?_)
  exact h H locs ls hR hS (lv_sub hl [3, 4, 5, 6, 7, 2, 1, 0] rfl)
set_option maxHeartbeats 4000000 in
theorem mX3_isOpenFor {X : zX} {d : Nat} {g : zG} {K : Option Value → zG → Prop} {KX : String → zG → Prop} (hok : zOk X) (a0 : Nat) (x1 : Int32) (x2 : Int32) (h : ∃ (fs_1 : List Value) (v_2 : Int32), zGo g 3 a0 = some fs_1 ∧ fs_1[2]? = some (.int v_2) ∧ (¬ v_2 = 0 → K (some (.int 0)) g) ∧ (v_2 = 0 → (x2 = (-1) → K (some (.int 1)) g) ∧ (¬ x2 = (-1) → ∃ (fs_3 : List Value) (v_4 : Int32), zGo g 3 a0 = some fs_3 ∧ fs_3[5]? = some (.int v_4) ∧ ∃ (fs_5 : List Value) (a_6 : Nat), zGo g 3 a0 = some fs_5 ∧ fs_5[7]? = some (.ref a_6) ∧ ∃ (fs_7 : List Value) (a_8 : Nat), zGo g 3 a0 = some fs_7 ∧ fs_7[28]? = some (.ref a_8) ∧ ∃ (n_9 : Nat) (f_10 : Nat → Int32), zGi g 28 a_8 = some (n_9, f_10) ∧ vp_in x1 n_9 ∧ ∀ v_11 : Int32, v_11 = f_10 x1.toNatClampNeg → ∃ (n_12 : Nat) (f_13 : Nat → Int32), zGi g 7 a_6 = some (n_12, f_13) ∧ vp_in v_11 n_12 ∧ ∀ v_14 : Int32, v_14 = f_13 v_11.toNatClampNeg → (x2 < (v_4 - v_14) → K (some (.int 0)) g) ∧ (¬ x2 < (v_4 - v_14) → K (some (.int 1)) g)))) : zCal X d yX3_isOpenFor wX3_isOpenFor [.ref a0, .int x1, .int x2] g K KX := by
  refine z_enter hok pn_X3 (Nat.le_of_ble_eq_true rfl) (fun E C hQ => ?_)
  have C : zC X d E RX3 cX3_isOpenFor 3 (some .boolean) "isOpenFor" := C
  show GW X E 3 g 0 [(0, .ref a0), (1, .int x1), (2, .int x2)] []
  intro H locs ls hR hS hl
  refine lv_aload_n C.x C.b dX3_isOpenFor_0 rfl (lv_at hl 0 rfl) ?_
  obtain ⟨fs_1, v_2, q1, q2, h⟩ := h
  refine z_get C hR q1 rfl (ci := 3) rfl in_X3 2 (by decide) q1639 (fun _ h => h) q2 dX3_isOpenFor_1 ?_
  obtain ⟨h1, h2⟩ := h
  refine lv_if_ne (tgt := 36) C.x C.b dX3_isOpenFor_4 (by decide) (fun c => ?_) (fun c => ?_)
  · have h := h1 c; clear h1 h2
    refine lv_iconst (v := 0) C.x C.b dX3_isOpenFor_36 (by decide) ?_
    exact z_zret C hQ rfl dX3_isOpenFor_37 h H locs ls hR hS hl
  · have h := h2 c; clear h1 h2
    refine lv_iload_n C.x C.b dX3_isOpenFor_7 rfl (lv_at hl 2 rfl) ?_
    refine lv_iconst (v := (-1)) C.x C.b dX3_isOpenFor_8 (by decide) ?_
    obtain ⟨h1, h2⟩ := h
    refine lv_icmp_eq (tgt := 32) C.x C.b dX3_isOpenFor_9 (by decide) (fun c => ?_) (fun c => ?_)
    · have h := h1 c; clear h1 h2
      refine lv_iconst (v := 1) C.x C.b dX3_isOpenFor_32 (by decide) ?_
      refine lv_goto (tgt := 37) C.x C.b dX3_isOpenFor_33 (by decide) ?_
      exact z_zret C hQ rfl dX3_isOpenFor_37 h H locs ls hR hS hl
    · have h := h2 c; clear h1 h2
      refine lv_aload_n C.x C.b dX3_isOpenFor_12 rfl (lv_at hl 0 rfl) ?_
      obtain ⟨fs_3, v_4, q1, q2, h⟩ := h
      refine z_get C hR q1 rfl (ci := 3) rfl in_X3 5 (by decide) q1642 (fun _ h => h) q2 dX3_isOpenFor_13 ?_
      refine lv_aload_n C.x C.b dX3_isOpenFor_16 rfl (lv_at hl 0 rfl) ?_
      obtain ⟨fs_5, a_6, q1, q2, h⟩ := h
      refine z_get C hR q1 rfl (ci := 3) rfl in_X3 7 (by decide) q1644 (fun _ h => h) q2 dX3_isOpenFor_17 ?_
      refine lv_aload_n C.x C.b dX3_isOpenFor_20 rfl (lv_at hl 0 rfl) ?_
      obtain ⟨fs_7, a_8, q1, q2, h⟩ := h
      refine z_get C hR q1 rfl (ci := 3) rfl in_X3 28 (by decide) q1665 (fun _ h => h) q2 dX3_isOpenFor_21 ?_
      refine lv_iload_n C.x C.b dX3_isOpenFor_24 rfl (lv_at hl 1 rfl) ?_
      obtain ⟨n_9, f_10, q1, q2, h⟩ := h
      refine z_iald C hR q1 (by decide) q2 dX3_isOpenFor_25 ?_
      have h := h _ rfl
      generalize f_10 x1.toNatClampNeg = v_11 at h ⊢
      obtain ⟨n_12, f_13, q1, q2, h⟩ := h
      refine z_iald C hR q1 (by decide) q2 dX3_isOpenFor_26 ?_
      have h := h _ rfl
      generalize f_13 v_11.toNatClampNeg = v_14 at h ⊢
      refine lv_isub C.x C.b dX3_isOpenFor_27 ?_
      refine lv_iload_n C.x C.b dX3_isOpenFor_28 rfl (lv_at hl 2 rfl) ?_
      obtain ⟨h1, h2⟩ := h
      refine lv_icmp_gt (tgt := 36) C.x C.b dX3_isOpenFor_29 (by decide) (fun c => ?_) (fun c => ?_)
      · have h := h1 c; clear h1 h2
        refine lv_iconst (v := 0) C.x C.b dX3_isOpenFor_36 (by decide) ?_
        exact z_zret C hQ rfl dX3_isOpenFor_37 h H locs ls hR hS hl
      · have h := h2 c; clear h1 h2
        refine lv_iconst (v := 1) C.x C.b dX3_isOpenFor_32 (by decide) ?_
        refine lv_goto (tgt := 37) C.x C.b dX3_isOpenFor_33 (by decide) ?_
        exact z_zret C hQ rfl dX3_isOpenFor_37 h H locs ls hR hS hl
theorem hdV_X3_isOpenFor : yX3_isOpenFor.cls = RX3 ∧ yX3_isOpenFor.cls ≠ "java/lang/invoke/MethodHandle" ∧ yX3_isOpenFor.cls ≠ "java/lang/invoke/VarHandle" ∧ (parseMethodDescriptor yX3_isOpenFor.desc).map (fun d => d.parameters.length) = some 2 := by decide +kernel
set_option maxHeartbeats 4000000 in
theorem bX3_soonAt_19 {X : zX} {d : Nat} {E : zM} {K : Option Value → zG → Prop} {KX : String → zG → Prop} (C : zC X (d + 1) E RX3 cX3_soonAt 6 (some .int) "soonAt") (hQ : zQ X E K KX) (g : zG) (a0 : Nat) (x1 : Int32) (x2 : Int32) (x3 : Int32) (x4 : Int32) (x5 : Int32) (h : ∃ (fs_1 : List Value) (v_2 : Int32), zGo g 3 a0 = some fs_1 ∧ fs_1[27]? = some (.int v_2) ∧ (v_2 ≤ x5 → K (some (.int x4)) g) ∧ (¬ v_2 ≤ x5 → zIs g 3 a0 ∧ zCal X d yX3_isNear wX3_isNear [.ref a0, .int x2, .int x5, .int x3] g (fun r g_3 => ∃ v_4 : Int32, r = some (.int v_4) ∧ zbo v_4 ∧ (v_4 = 0 → K (some (.int x4)) g_3) ∧ (¬ v_4 = 0 → zIs g_3 3 a0 ∧ zCal X d yX3_at wX3_at [.ref a0, .int x1, .int x5] g_3 (fun r g_5 => ∃ v_6 : Int32, r = some (.int v_6) ∧ zCal X d yX3_or wX3_or [.int x4, .int v_6] g_5 (fun r g_7 => ∃ v_8 : Int32, r = some (.int v_8) ∧ GW X E 6 g_7 19 [(0, .ref a0), (1, .int x1), (2, .int x2), (3, .int x3), (4, .int v_8), (5, .int (x5 + 1))] []) KX) KX)) KX)) : GW X E 6 g 19 [(0, .ref a0), (1, .int x1), (2, .int x2), (3, .int x3), (4, .int x4), (5, .int x5)] [] := by
  intro H locs ls hR hS hl
  refine lv_iload C.x C.b dX3_soonAt_19 (lv_at hl 5 rfl) ?_
  refine lv_aload_n C.x C.b dX3_soonAt_21 rfl (lv_at hl 0 rfl) ?_
  obtain ⟨fs_1, v_2, q1, q2, h⟩ := h
  refine z_get C hR q1 rfl (ci := 3) rfl in_X3 27 (by decide) q1664 (fun _ h => h) q2 dX3_soonAt_22 ?_
  obtain ⟨h1, h2⟩ := h
  refine lv_icmp_ge (tgt := 59) C.x C.b dX3_soonAt_25 (by decide) (fun c => ?_) (fun c => ?_)
  · have h := h1 c; clear h1 h2
    refine lv_iload C.x C.b dX3_soonAt_59 (lv_at hl 4 rfl) ?_
    exact z_iret C hQ dX3_soonAt_61 h H locs ls hR hS hl
  · have h := h2 c; clear h1 h2
    refine lv_aload_n C.x C.b dX3_soonAt_28 rfl (lv_at hl 0 rfl) ?_
    refine lv_iload_n C.x C.b dX3_soonAt_29 rfl (lv_at hl 2 rfl) ?_
    refine lv_iload C.x C.b dX3_soonAt_30 (lv_at hl 5 rfl) ?_
    refine lv_iload_n C.x C.b dX3_soonAt_32 rfl (lv_at hl 3 rfl) ?_
    refine z_callV C hR hS hl (n := 3) (C1 := RX3) (T := TX3) (N := 35) (ci := 3) (y := yX3_isNear) (bytes := cX3_isNear) (maxL := 4) (rt := (some .boolean)) (As := [.int x2, .int x5, .int x3]) (rest := []) h.1 rfl (lw_V q1833 q1835 qs41 q82 q1836) hdV_X3_isNear (by decide) rfl rfl (Nat.le_of_ble_eq_true rfl) dX3_soonAt_33 h.2 (fun r g_3 hk_ => ?_) (fun x g1 h => z_out C hQ h)
    clear h; obtain ⟨v_4, rfl, zb_, h⟩ := hk_
    show GW X E 6 g_3 36 [(0, .ref a0), (1, .int x1), (2, .int x2), (3, .int x3), (4, .int x4), (5, .int x5)] [.int v_4]
    intro H locs ls hR hS hl
    obtain ⟨h1, h2⟩ := h
    refine lv_if_eq (tgt := 59) C.x C.b dX3_soonAt_36 (by decide) (fun c => ?_) (fun c => ?_)
    · have h := h1 c; clear h1 h2
      refine lv_iload C.x C.b dX3_soonAt_59 (lv_at hl 4 rfl) ?_
      exact z_iret C hQ dX3_soonAt_61 h H locs ls hR hS hl
    · have h := h2 c; clear h1 h2
      refine lv_iload C.x C.b dX3_soonAt_39 (lv_at hl 4 rfl) ?_
      refine lv_aload_n C.x C.b dX3_soonAt_41 rfl (lv_at hl 0 rfl) ?_
      refine lv_iload_n C.x C.b dX3_soonAt_42 rfl (lv_at hl 1 rfl) ?_
      refine lv_iload C.x C.b dX3_soonAt_43 (lv_at hl 5 rfl) ?_
      refine z_callV C hR hS hl (n := 2) (C1 := RX3) (T := TX3) (N := 35) (ci := 3) (y := yX3_at) (bytes := cX3_at) (maxL := 3) (rt := (some .int)) (As := [.int x1, .int x5]) (rest := [.int x4]) h.1 rfl (lw_V q1816 q1818 qs39 q82 q1819) hdV_X3_at (by decide) rfl rfl (Nat.le_of_ble_eq_true rfl) dX3_soonAt_45 h.2 (fun r g_5 hk_ => ?_) (fun x g1 h => z_out C hQ h)
      clear h; obtain ⟨v_6, rfl, h⟩ := hk_
      show GW X E 6 g_5 48 [(0, .ref a0), (1, .int x1), (2, .int x2), (3, .int x3), (4, .int x4), (5, .int x5)] [.int v_6, .int x4]
      intro H locs ls hR hS hl
      refine z_callS C hR hS hl (n := 2) (y := yX3_or) (bytes := cX3_or) (maxL := 2) (rt := (some .int)) (As := [.int x4, .int v_6]) (rest := []) (lw_S q1826 q1827 q82 q1828) hdS_X3_or (by decide) rfl rfl (Nat.le_of_ble_eq_true rfl) dX3_soonAt_48 h (fun r g_7 hk_ => ?_) (fun x g1 h => z_out C hQ h)
      clear h; obtain ⟨v_8, rfl, h⟩ := hk_
      show GW X E 6 g_7 51 [(0, .ref a0), (1, .int x1), (2, .int x2), (3, .int x3), (4, .int x4), (5, .int x5)] [.int v_8]
      intro H locs ls hR hS hl
      refine lv_istore (lv' := [(4, .int v_8), (0, .ref a0), (1, .int x1), (2, .int x2), (3, .int x3), (5, .int x5)]) C.x C.b dX3_soonAt_51 hl (by decide) rfl (fun ls hl => ?_)
      refine lv_iinc (v := x5 + 1) (lv' := [(5, .int (x5 + 1)), (4, .int v_8), (0, .ref a0), (1, .int x1), (2, .int x2), (3, .int x3)]) C.x C.b dX3_soonAt_53 hl (k := 5) rfl rfl (by decide) rfl (fun ls hl => ?_)
      refine lv_goto (tgt := 19) C.x C.b dX3_soonAt_56 (by decide) ?_
      exact h H locs ls hR hS (lv_sub hl [2, 3, 4, 5, 1, 0] rfl)
set_option maxHeartbeats 4000000 in
theorem mX3_soonAt {X : zX} {d : Nat} {g : zG} {K : Option Value → zG → Prop} {KX : String → zG → Prop} (hok : zOk X) (a0 : Nat) (x1 : Int32) (x2 : Int32) (x3 : Int32) (h : ∀ E : zM, zC X (d + 1) E RX3 cX3_soonAt 6 (some .int) "soonAt" → zQ X E K KX → zIs g 3 a0 ∧ zCal X d yX3_isOpenFor wX3_isOpenFor [.ref a0, .int x2, .int x3] g (fun r g_1 => ∃ v_2 : Int32, r = some (.int v_2) ∧ zbo v_2 ∧ (v_2 = 0 → GW X E 6 g_1 19 [(0, .ref a0), (1, .int x1), (2, .int x2), (3, .int x3), (4, .int 0), (5, .int x2)] []) ∧ (¬ v_2 = 0 → GW X E 6 g_1 19 [(0, .ref a0), (1, .int x1), (2, .int x2), (3, .int x3), (4, .int 2), (5, .int x2)] [])) KX) : zCal X (d + 1) yX3_soonAt wX3_soonAt [.ref a0, .int x1, .int x2, .int x3] g K KX := by
  refine z_enter hok pn_X3 (Nat.le_of_ble_eq_true rfl) (fun E C hQ => ?_)
  have C : zC X (d + 1) E RX3 cX3_soonAt 6 (some .int) "soonAt" := C
  have h := h E C hQ
  show GW X E 6 g 0 [(0, .ref a0), (1, .int x1), (2, .int x2), (3, .int x3)] []
  intro H locs ls hR hS hl
  refine lv_aload_n C.x C.b dX3_soonAt_0 rfl (lv_at hl 0 rfl) ?_
  refine lv_iload_n C.x C.b dX3_soonAt_1 rfl (lv_at hl 2 rfl) ?_
  refine lv_iload_n C.x C.b dX3_soonAt_2 rfl (lv_at hl 3 rfl) ?_
  refine z_callV C hR hS hl (n := 2) (C1 := RX3) (T := TX3) (N := 35) (ci := 3) (y := yX3_isOpenFor) (bytes := cX3_isOpenFor) (maxL := 3) (rt := (some .boolean)) (As := [.int x2, .int x3]) (rest := []) h.1 rfl (lw_V q1845 q1847 qs44 q82 q1848) hdV_X3_isOpenFor (by decide) rfl rfl (Nat.le_of_ble_eq_true rfl) dX3_soonAt_3 h.2 (fun r g_1 hk_ => ?_) (fun x g1 h => z_out C hQ h)
  clear h; obtain ⟨v_2, rfl, zb_, h⟩ := hk_
  show GW X E 6 g_1 6 [(0, .ref a0), (1, .int x1), (2, .int x2), (3, .int x3)] [.int v_2]
  intro H locs ls hR hS hl
  obtain ⟨h1, h2⟩ := h
  refine lv_if_eq (tgt := 13) C.x C.b dX3_soonAt_6 (by decide) (fun c => ?_) (fun c => ?_)
  · have h := h1 c; clear h1 h2
    refine lv_iconst (v := 0) C.x C.b dX3_soonAt_13 (by decide) ?_
    refine lv_istore (lv' := [(4, .int 0), (0, .ref a0), (1, .int x1), (2, .int x2), (3, .int x3)]) C.x C.b dX3_soonAt_14 hl (by decide) rfl (fun ls hl => ?_)
    refine lv_iload_n C.x C.b dX3_soonAt_16 rfl (lv_at hl 3 rfl) ?_
    refine lv_istore (lv' := [(5, .int x2), (4, .int 0), (0, .ref a0), (1, .int x1), (2, .int x2), (3, .int x3)]) C.x C.b dX3_soonAt_17 hl (by decide) rfl (fun ls hl => ?_)
    exact h H locs ls hR hS (lv_sub hl [2, 3, 4, 5, 1, 0] rfl)
  · have h := h2 c; clear h1 h2
    refine lv_iconst (v := 2) C.x C.b dX3_soonAt_9 (by decide) ?_
    refine lv_goto (tgt := 14) C.x C.b dX3_soonAt_10 (by decide) ?_
    refine lv_istore (lv' := [(4, .int 2), (0, .ref a0), (1, .int x1), (2, .int x2), (3, .int x3)]) C.x C.b dX3_soonAt_14 hl (by decide) rfl (fun ls hl => ?_)
    refine lv_iload_n C.x C.b dX3_soonAt_16 rfl (lv_at hl 3 rfl) ?_
    refine lv_istore (lv' := [(5, .int x2), (4, .int 2), (0, .ref a0), (1, .int x1), (2, .int x2), (3, .int x3)]) C.x C.b dX3_soonAt_17 hl (by decide) rfl (fun ls hl => ?_)
    exact h H locs ls hR hS (lv_sub hl [2, 3, 4, 5, 1, 0] rfl)
set_option maxHeartbeats 4000000 in
theorem bX3_untilAt_9 {X : zX} {d : Nat} {E : zM} {K : Option Value → zG → Prop} {KX : String → zG → Prop} (C : zC X (d + 1) E RX3 cX3_untilAt 8 (some .int) "untilAt") (hQ : zQ X E K KX) (g : zG) (a0 : Nat) (x1 : Int32) (x2 : Int32) (x3 : Int32) (x4 : Int32) (x5 : Int32) (x6 : Int32) (x7 : Int32) (h : ∃ (fs_1 : List Value) (v_2 : Int32), zGo g 3 a0 = some fs_1 ∧ fs_1[27]? = some (.int v_2) ∧ (v_2 ≤ x7 → zIs g 3 a0 ∧ zCal X d yX3_isOpenFor wX3_isOpenFor [.ref a0, .int x3, .int x4] g (fun r g_3 => ∃ v_4 : Int32, r = some (.int v_4) ∧ zbo v_4 ∧ (v_4 = 0 → K (some (.int x5)) g_3) ∧ (¬ v_4 = 0 → zCal X d yX3_and wX3_and [.int 2, .int x6] g_3 (fun r g_5 => ∃ v_6 : Int32, r = some (.int v_6) ∧ zCal X d yX3_or wX3_or [.int x5, .int v_6] g_5 (fun r g_7 => ∃ v_8 : Int32, r = some (.int v_8) ∧ K (some (.int v_8)) g_7) KX) KX)) KX) ∧ (¬ v_2 ≤ x7 → zIs g 3 a0 ∧ zCal X d yX3_isNear wX3_isNear [.ref a0, .int x3, .int x7, .int x4] g (fun r g_9 => ∃ v_10 : Int32, r = some (.int v_10) ∧ zbo v_10 ∧ (v_10 = 0 → GW X E 8 g_9 52 [(0, .ref a0), (1, .int x1), (2, .int x2), (3, .int x3), (4, .int x4), (6, .int x6), (7, .int x7)] [.int x5]) ∧ (¬ v_10 = 0 → zIs g_9 3 a0 ∧ zCal X d yX3_at wX3_at [.ref a0, .int x2, .int x7] g_9 (fun r g_11 => ∃ v_12 : Int32, r = some (.int v_12) ∧ zCal X d yX3_and wX3_and [.int v_12, .int x6] g_11 (fun r g_13 => ∃ v_14 : Int32, r = some (.int v_14) ∧ zCal X d yX3_or wX3_or [.int x5, .int v_14] g_13 (fun r g_15 => ∃ v_16 : Int32, r = some (.int v_16) ∧ GW X E 8 g_15 52 [(0, .ref a0), (1, .int x1), (2, .int x2), (3, .int x3), (4, .int x4), (6, .int x6), (7, .int x7)] [.int v_16]) KX) KX) KX)) KX)) : GW X E 8 g 9 [(0, .ref a0), (1, .int x1), (2, .int x2), (3, .int x3), (4, .int x4), (5, .int x5), (6, .int x6), (7, .int x7)] [] := by
  intro H locs ls hR hS hl
  refine lv_iload C.x C.b dX3_untilAt_9 (lv_at hl 7 rfl) ?_
  refine lv_aload_n C.x C.b dX3_untilAt_11 rfl (lv_at hl 0 rfl) ?_
  obtain ⟨fs_1, v_2, q1, q2, h⟩ := h
  refine z_get C hR q1 rfl (ci := 3) rfl in_X3 27 (by decide) q1664 (fun _ h => h) q2 dX3_untilAt_12 ?_
  obtain ⟨h1, h2⟩ := h
  refine lv_icmp_ge (tgt := 74) C.x C.b dX3_untilAt_15 (by decide) (fun c => ?_) (fun c => ?_)
  · have h := h1 c; clear h1 h2
    refine lv_aload_n C.x C.b dX3_untilAt_74 rfl (lv_at hl 0 rfl) ?_
    refine lv_iload_n C.x C.b dX3_untilAt_75 rfl (lv_at hl 3 rfl) ?_
    refine lv_iload C.x C.b dX3_untilAt_76 (lv_at hl 4 rfl) ?_
    refine z_callV C hR hS hl (n := 2) (C1 := RX3) (T := TX3) (N := 35) (ci := 3) (y := yX3_isOpenFor) (bytes := cX3_isOpenFor) (maxL := 3) (rt := (some .boolean)) (As := [.int x3, .int x4]) (rest := []) h.1 rfl (lw_V q1845 q1847 qs44 q82 q1848) hdV_X3_isOpenFor (by decide) rfl rfl (Nat.le_of_ble_eq_true rfl) dX3_untilAt_78 h.2 (fun r g_3 hk_ => ?_) (fun x g1 h => z_out C hQ h)
    clear h; obtain ⟨v_4, rfl, zb_, h⟩ := hk_
    show GW X E 8 g_3 81 [(0, .ref a0), (1, .int x1), (2, .int x2), (3, .int x3), (4, .int x4), (5, .int x5), (6, .int x6), (7, .int x7)] [.int v_4]
    intro H locs ls hR hS hl
    obtain ⟨h1, h2⟩ := h
    refine lv_if_eq (tgt := 98) C.x C.b dX3_untilAt_81 (by decide) (fun c => ?_) (fun c => ?_)
    · have h := h1 c; clear h1 h2
      refine lv_iload C.x C.b dX3_untilAt_98 (lv_at hl 5 rfl) ?_
      exact z_iret C hQ dX3_untilAt_100 h H locs ls hR hS hl
    · have h := h2 c; clear h1 h2
      refine lv_iload C.x C.b dX3_untilAt_84 (lv_at hl 5 rfl) ?_
      refine lv_iconst (v := 2) C.x C.b dX3_untilAt_86 (by decide) ?_
      refine lv_iload C.x C.b dX3_untilAt_87 (lv_at hl 6 rfl) ?_
      refine z_callS C hR hS hl (n := 2) (y := yX3_and) (bytes := cX3_and) (maxL := 2) (rt := (some .int)) (As := [.int 2, .int x6]) (rest := [.int x5]) (lw_S q1823 q1824 q82 q1825) hdS_X3_and (by decide) rfl rfl (Nat.le_of_ble_eq_true rfl) dX3_untilAt_89 h (fun r g_5 hk_ => ?_) (fun x g1 h => z_out C hQ h)
      clear h; obtain ⟨v_6, rfl, h⟩ := hk_
      show GW X E 8 g_5 92 [(0, .ref a0), (1, .int x1), (2, .int x2), (3, .int x3), (4, .int x4), (5, .int x5), (6, .int x6), (7, .int x7)] [.int v_6, .int x5]
      intro H locs ls hR hS hl
      refine z_callS C hR hS hl (n := 2) (y := yX3_or) (bytes := cX3_or) (maxL := 2) (rt := (some .int)) (As := [.int x5, .int v_6]) (rest := []) (lw_S q1826 q1827 q82 q1828) hdS_X3_or (by decide) rfl rfl (Nat.le_of_ble_eq_true rfl) dX3_untilAt_92 h (fun r g_7 hk_ => ?_) (fun x g1 h => z_out C hQ h)
      clear h; obtain ⟨v_8, rfl, h⟩ := hk_
      show GW X E 8 g_7 95 [(0, .ref a0), (1, .int x1), (2, .int x2), (3, .int x3), (4, .int x4), (5, .int x5), (6, .int x6), (7, .int x7)] [.int v_8]
      intro H locs ls hR hS hl
      refine lv_goto (tgt := 100) C.x C.b dX3_untilAt_95 (by decide) ?_
      exact z_iret C hQ dX3_untilAt_100 h H locs ls hR hS hl
  · have h := h2 c; clear h1 h2
    refine lv_aload_n C.x C.b dX3_untilAt_18 rfl (lv_at hl 0 rfl) ?_
    refine lv_iload_n C.x C.b dX3_untilAt_19 rfl (lv_at hl 3 rfl) ?_
    refine lv_iload C.x C.b dX3_untilAt_20 (lv_at hl 7 rfl) ?_
    refine lv_iload C.x C.b dX3_untilAt_22 (lv_at hl 4 rfl) ?_
    refine z_callV C hR hS hl (n := 3) (C1 := RX3) (T := TX3) (N := 35) (ci := 3) (y := yX3_isNear) (bytes := cX3_isNear) (maxL := 4) (rt := (some .boolean)) (As := [.int x3, .int x7, .int x4]) (rest := []) h.1 rfl (lw_V q1833 q1835 qs41 q82 q1836) hdV_X3_isNear (by decide) rfl rfl (Nat.le_of_ble_eq_true rfl) dX3_untilAt_24 h.2 (fun r g_9 hk_ => ?_) (fun x g1 h => z_out C hQ h)
    clear h; obtain ⟨v_10, rfl, zb_, h⟩ := hk_
    show GW X E 8 g_9 27 [(0, .ref a0), (1, .int x1), (2, .int x2), (3, .int x3), (4, .int x4), (5, .int x5), (6, .int x6), (7, .int x7)] [.int v_10]
    intro H locs ls hR hS hl
    obtain ⟨h1, h2⟩ := h
    refine lv_if_eq (tgt := 50) C.x C.b dX3_untilAt_27 (by decide) (fun c => ?_) (fun c => ?_)
    · have h := h1 c; clear h1 h2
      refine lv_iload C.x C.b dX3_untilAt_50 (lv_at hl 5 rfl) ?_
      exact h H locs ls hR hS (lv_sub hl [0, 1, 2, 3, 4, 6, 7] rfl)
    · have h := h2 c; clear h1 h2
      refine lv_iload C.x C.b dX3_untilAt_30 (lv_at hl 5 rfl) ?_
      refine lv_aload_n C.x C.b dX3_untilAt_32 rfl (lv_at hl 0 rfl) ?_
      refine lv_iload_n C.x C.b dX3_untilAt_33 rfl (lv_at hl 2 rfl) ?_
      refine lv_iload C.x C.b dX3_untilAt_34 (lv_at hl 7 rfl) ?_
      refine z_callV C hR hS hl (n := 2) (C1 := RX3) (T := TX3) (N := 35) (ci := 3) (y := yX3_at) (bytes := cX3_at) (maxL := 3) (rt := (some .int)) (As := [.int x2, .int x7]) (rest := [.int x5]) h.1 rfl (lw_V q1816 q1818 qs39 q82 q1819) hdV_X3_at (by decide) rfl rfl (Nat.le_of_ble_eq_true rfl) dX3_untilAt_36 h.2 (fun r g_11 hk_ => ?_) (fun x g1 h => z_out C hQ h)
      clear h; obtain ⟨v_12, rfl, h⟩ := hk_
      show GW X E 8 g_11 39 [(0, .ref a0), (1, .int x1), (2, .int x2), (3, .int x3), (4, .int x4), (5, .int x5), (6, .int x6), (7, .int x7)] [.int v_12, .int x5]
      intro H locs ls hR hS hl
      refine lv_iload C.x C.b dX3_untilAt_39 (lv_at hl 6 rfl) ?_
      refine z_callS C hR hS hl (n := 2) (y := yX3_and) (bytes := cX3_and) (maxL := 2) (rt := (some .int)) (As := [.int v_12, .int x6]) (rest := [.int x5]) (lw_S q1823 q1824 q82 q1825) hdS_X3_and (by decide) rfl rfl (Nat.le_of_ble_eq_true rfl) dX3_untilAt_41 h (fun r g_13 hk_ => ?_) (fun x g1 h => z_out C hQ h)
      clear h; obtain ⟨v_14, rfl, h⟩ := hk_
      show GW X E 8 g_13 44 [(0, .ref a0), (1, .int x1), (2, .int x2), (3, .int x3), (4, .int x4), (5, .int x5), (6, .int x6), (7, .int x7)] [.int v_14, .int x5]
      intro H locs ls hR hS hl
      refine z_callS C hR hS hl (n := 2) (y := yX3_or) (bytes := cX3_or) (maxL := 2) (rt := (some .int)) (As := [.int x5, .int v_14]) (rest := []) (lw_S q1826 q1827 q82 q1828) hdS_X3_or (by decide) rfl rfl (Nat.le_of_ble_eq_true rfl) dX3_untilAt_44 h (fun r g_15 hk_ => ?_) (fun x g1 h => z_out C hQ h)
      clear h; obtain ⟨v_16, rfl, h⟩ := hk_
      show GW X E 8 g_15 47 [(0, .ref a0), (1, .int x1), (2, .int x2), (3, .int x3), (4, .int x4), (5, .int x5), (6, .int x6), (7, .int x7)] [.int v_16]
      intro H locs ls hR hS hl
      refine lv_goto (tgt := 52) C.x C.b dX3_untilAt_47 (by decide) ?_
      exact h H locs ls hR hS (lv_sub hl [0, 1, 2, 3, 4, 6, 7] rfl)
set_option maxHeartbeats 4000000 in
theorem bX3_untilAt_52 {X : zX} {d : Nat} {E : zM} {K : Option Value → zG → Prop} {KX : String → zG → Prop} (C : zC X (d + 1) E RX3 cX3_untilAt 8 (some .int) "untilAt") (hQ : zQ X E K KX) (g : zG) (a0 : Nat) (x1 : Int32) (x2 : Int32) (x3 : Int32) (x4 : Int32) (x6 : Int32) (x7 : Int32) (t0 : Int32) (h : zIs g 3 a0 ∧ zCal X d yX3_at wX3_at [.ref a0, .int x1, .int x7] g (fun r g_1 => ∃ v_2 : Int32, r = some (.int v_2) ∧ zCal X d yX3_and wX3_and [.int x6, .int v_2] g_1 (fun r g_3 => ∃ v_4 : Int32, r = some (.int v_4) ∧ GW X E 8 g_3 9 [(0, .ref a0), (1, .int x1), (2, .int x2), (3, .int x3), (4, .int x4), (5, .int t0), (6, .int v_4), (7, .int (x7 + 1))] []) KX) KX) : GW X E 8 g 52 [(0, .ref a0), (1, .int x1), (2, .int x2), (3, .int x3), (4, .int x4), (6, .int x6), (7, .int x7)] [.int t0] := by
  intro H locs ls hR hS hl
  refine lv_istore (lv' := [(5, .int t0), (0, .ref a0), (1, .int x1), (2, .int x2), (3, .int x3), (4, .int x4), (6, .int x6), (7, .int x7)]) C.x C.b dX3_untilAt_52 hl (by decide) rfl (fun ls hl => ?_)
  refine lv_iload C.x C.b dX3_untilAt_54 (lv_at hl 6 rfl) ?_
  refine lv_aload_n C.x C.b dX3_untilAt_56 rfl (lv_at hl 1 rfl) ?_
  refine lv_iload_n C.x C.b dX3_untilAt_57 rfl (lv_at hl 2 rfl) ?_
  refine lv_iload C.x C.b dX3_untilAt_58 (lv_at hl 7 rfl) ?_
  refine z_callV C hR hS hl (n := 2) (C1 := RX3) (T := TX3) (N := 35) (ci := 3) (y := yX3_at) (bytes := cX3_at) (maxL := 3) (rt := (some .int)) (As := [.int x1, .int x7]) (rest := [.int x6]) h.1 rfl (lw_V q1816 q1818 qs39 q82 q1819) hdV_X3_at (by decide) rfl rfl (Nat.le_of_ble_eq_true rfl) dX3_untilAt_60 h.2 (fun r g_1 hk_ => ?_) (fun x g1 h => z_out C hQ h)
  clear h; obtain ⟨v_2, rfl, h⟩ := hk_
  show GW X E 8 g_1 63 [(5, .int t0), (0, .ref a0), (1, .int x1), (2, .int x2), (3, .int x3), (4, .int x4), (6, .int x6), (7, .int x7)] [.int v_2, .int x6]
  intro H locs ls hR hS hl
  refine z_callS C hR hS hl (n := 2) (y := yX3_and) (bytes := cX3_and) (maxL := 2) (rt := (some .int)) (As := [.int x6, .int v_2]) (rest := []) (lw_S q1823 q1824 q82 q1825) hdS_X3_and (by decide) rfl rfl (Nat.le_of_ble_eq_true rfl) dX3_untilAt_63 h (fun r g_3 hk_ => ?_) (fun x g1 h => z_out C hQ h)
  clear h; obtain ⟨v_4, rfl, h⟩ := hk_
  show GW X E 8 g_3 66 [(5, .int t0), (0, .ref a0), (1, .int x1), (2, .int x2), (3, .int x3), (4, .int x4), (6, .int x6), (7, .int x7)] [.int v_4]
  intro H locs ls hR hS hl
  refine lv_istore (lv' := [(6, .int v_4), (5, .int t0), (0, .ref a0), (1, .int x1), (2, .int x2), (3, .int x3), (4, .int x4), (7, .int x7)]) C.x C.b dX3_untilAt_66 hl (by decide) rfl (fun ls hl => ?_)
  refine lv_iinc (v := x7 + 1) (lv' := [(7, .int (x7 + 1)), (6, .int v_4), (5, .int t0), (0, .ref a0), (1, .int x1), (2, .int x2), (3, .int x3), (4, .int x4)]) C.x C.b dX3_untilAt_68 hl (k := 7) rfl rfl (by decide) rfl (fun ls hl => ?_)
  refine lv_goto (tgt := 9) C.x C.b dX3_untilAt_71 (by decide) ?_
  exact h H locs ls hR hS (lv_sub hl [3, 4, 5, 6, 7, 2, 1, 0] rfl)
set_option maxHeartbeats 4000000 in
theorem mX3_untilAt {X : zX} {d : Nat} {g : zG} {K : Option Value → zG → Prop} {KX : String → zG → Prop} (hok : zOk X) (a0 : Nat) (x1 : Int32) (x2 : Int32) (x3 : Int32) (x4 : Int32) (h : ∀ E : zM, zC X (d + 1) E RX3 cX3_untilAt 8 (some .int) "untilAt" → zQ X E K KX → GW X E 8 g 9 [(0, .ref a0), (1, .int x1), (2, .int x2), (3, .int x3), (4, .int x4), (5, .int 0), (6, .int 1), (7, .int x3)] []) : zCal X (d + 1) yX3_untilAt wX3_untilAt [.ref a0, .int x1, .int x2, .int x3, .int x4] g K KX := by
  refine z_enter hok pn_X3 (Nat.le_of_ble_eq_true rfl) (fun E C hQ => ?_)
  have C : zC X (d + 1) E RX3 cX3_untilAt 8 (some .int) "untilAt" := C
  have h := h E C hQ
  show GW X E 8 g 0 [(0, .ref a0), (1, .int x1), (2, .int x2), (3, .int x3), (4, .int x4)] []
  intro H locs ls hR hS hl
  refine lv_iconst (v := 0) C.x C.b dX3_untilAt_0 (by decide) ?_
  refine lv_istore (lv' := [(5, .int 0), (0, .ref a0), (1, .int x1), (2, .int x2), (3, .int x3), (4, .int x4)]) C.x C.b dX3_untilAt_1 hl (by decide) rfl (fun ls hl => ?_)
  refine lv_iconst (v := 1) C.x C.b dX3_untilAt_3 (by decide) ?_
  refine lv_istore (lv' := [(6, .int 1), (5, .int 0), (0, .ref a0), (1, .int x1), (2, .int x2), (3, .int x3), (4, .int x4)]) C.x C.b dX3_untilAt_4 hl (by decide) rfl (fun ls hl => ?_)
  refine lv_iload_n C.x C.b dX3_untilAt_6 rfl (lv_at hl 5 rfl) ?_
  refine lv_istore (lv' := [(7, .int x3), (6, .int 1), (5, .int 0), (0, .ref a0), (1, .int x1), (2, .int x2), (3, .int x3), (4, .int x4)]) C.x C.b dX3_untilAt_7 hl (by decide) rfl (fun ls hl => ?_)
  exact h H locs ls hR hS (lv_sub hl [3, 4, 5, 6, 7, 2, 1, 0] rfl)
theorem hdS_X3_not : yX3_not.cls ≠ "java/lang/invoke/MethodHandle" ∧ yX3_not.cls ≠ "java/lang/invoke/VarHandle" ∧ (parseMethodDescriptor yX3_not.desc).map (fun d => d.parameters.length) = some 1 := by decide +kernel
theorem hdV_X3_isValue : yX3_isValue.cls = RX3 ∧ yX3_isValue.cls ≠ "java/lang/invoke/MethodHandle" ∧ yX3_isValue.cls ≠ "java/lang/invoke/VarHandle" ∧ (parseMethodDescriptor yX3_isValue.desc).map (fun d => d.parameters.length) = some 3 := by decide +kernel
theorem hdV_X3_manyAt : yX3_manyAt.cls = RX3 ∧ yX3_manyAt.cls ≠ "java/lang/invoke/MethodHandle" ∧ yX3_manyAt.cls ≠ "java/lang/invoke/VarHandle" ∧ (parseMethodDescriptor yX3_manyAt.desc).map (fun d => d.parameters.length) = some 4 := by decide +kernel
theorem hdV_X3_onceAt : yX3_onceAt.cls = RX3 ∧ yX3_onceAt.cls ≠ "java/lang/invoke/MethodHandle" ∧ yX3_onceAt.cls ≠ "java/lang/invoke/VarHandle" ∧ (parseMethodDescriptor yX3_onceAt.desc).map (fun d => d.parameters.length) = some 3 := by decide +kernel
theorem hdV_X3_sinceAt : yX3_sinceAt.cls = RX3 ∧ yX3_sinceAt.cls ≠ "java/lang/invoke/MethodHandle" ∧ yX3_sinceAt.cls ≠ "java/lang/invoke/VarHandle" ∧ (parseMethodDescriptor yX3_sinceAt.desc).map (fun d => d.parameters.length) = some 4 := by decide +kernel
theorem hdV_X3_soonAt : yX3_soonAt.cls = RX3 ∧ yX3_soonAt.cls ≠ "java/lang/invoke/MethodHandle" ∧ yX3_soonAt.cls ≠ "java/lang/invoke/VarHandle" ∧ (parseMethodDescriptor yX3_soonAt.desc).map (fun d => d.parameters.length) = some 3 := by decide +kernel
theorem hdV_X3_untilAt : yX3_untilAt.cls = RX3 ∧ yX3_untilAt.cls ≠ "java/lang/invoke/MethodHandle" ∧ yX3_untilAt.cls ≠ "java/lang/invoke/VarHandle" ∧ (parseMethodDescriptor yX3_untilAt.desc).map (fun d => d.parameters.length) = some 4 := by decide +kernel
set_option maxHeartbeats 4000000 in
theorem bX3_tellsAt_31 {X : zX} {d : Nat} {E : zM} {K : Option Value → zG → Prop} {KX : String → zG → Prop} (C : zC X (d + 1) E RX3 cX3_tellsAt 8 (some .int) "tellsAt") (hQ : zQ X E K KX) (g : zG) (a0 : Nat) (x3 : Int32) (x4 : Int32) (x5 : Int32) (t0 : Int32) (h : ∃ (fs_1 : List Value) (a_2 : Nat), zGo g 3 a0 = some fs_1 ∧ fs_1[28]? = some (.ref a_2) ∧ ∃ (n_3 : Nat) (f_4 : Nat → Int32), zGi g 28 a_2 = some (n_3, f_4) ∧ vp_in x3 n_3 ∧ ∀ v_5 : Int32, v_5 = f_4 x3.toNatClampNeg → ∃ (fs_6 : List Value) (a_7 : Nat), zGo g 3 a0 = some fs_6 ∧ fs_6[16]? = some (.ref a_7) ∧ ∃ (n_8 : Nat) (f_9 : Nat → Int32), zGi g 16 a_7 = some (n_8, f_9) ∧ vp_in x4 n_8 ∧ ∀ v_10 : Int32, v_10 = f_9 x4.toNatClampNeg → (v_10 = 0 → ∃ (fs_11 : List Value) (a_12 : Nat), zGo g 3 a0 = some fs_11 ∧ fs_11[8]? = some (.ref a_12) ∧ ∃ (n_13 : Nat) (f_14 : Nat → Int32), zGi g 8 a_12 = some (n_13, f_14) ∧ vp_in v_5 n_13 ∧ ∀ v_15 : Int32, v_15 = f_14 v_5.toNatClampNeg → ∃ (fs_16 : List Value) (a_17 : Nat), zGo g 3 a0 = some fs_16 ∧ fs_16[17]? = some (.ref a_17) ∧ ∃ (n_18 : Nat) (f_19 : Nat → Int32), zGi g 17 a_17 = some (n_18, f_19) ∧ vp_in x4 n_18 ∧ ∀ v_20 : Int32, v_20 = f_19 x4.toNatClampNeg → (¬ v_15 = v_20 → K (some (.int 0)) g) ∧ (v_15 = v_20 → K (some (.int 1)) g)) ∧ (v_10 = 1 → ∃ (fs_21 : List Value) (a_22 : Nat), zGo g 3 a0 = some fs_21 ∧ fs_21[10]? = some (.ref a_22) ∧ ∃ (n_23 : Nat) (f_24 : Nat → Int32), zGi g 10 a_22 = some (n_23, f_24) ∧ vp_in v_5 n_23 ∧ ∀ v_25 : Int32, v_25 = f_24 v_5.toNatClampNeg → ∃ (fs_26 : List Value) (a_27 : Nat), zGo g 3 a0 = some fs_26 ∧ fs_26[17]? = some (.ref a_27) ∧ ∃ (n_28 : Nat) (f_29 : Nat → Int32), zGi g 17 a_27 = some (n_28, f_29) ∧ vp_in x4 n_28 ∧ ∀ v_30 : Int32, v_30 = f_29 x4.toNatClampNeg → ∃ (fs_31 : List Value) (a_32 : Nat), zGo g 3 a0 = some fs_31 ∧ fs_31[18]? = some (.ref a_32) ∧ ∃ (n_33 : Nat) (f_34 : Nat → Int32), zGi g 18 a_32 = some (n_33, f_34) ∧ vp_in x4 n_33 ∧ ∀ v_35 : Int32, v_35 = f_34 x4.toNatClampNeg → zIs g 3 a0 ∧ zCal X d yX3_isValue wX3_isValue [.ref a0, .int v_25, .int v_30, .int v_35] g (fun r g_36 => ∃ v_37 : Int32, r = some (.int v_37) ∧ zbo v_37 ∧ (v_37 = 0 → K (some (.int 0)) g_36) ∧ (¬ v_37 = 0 → K (some (.int 1)) g_36)) KX) ∧ (v_10 = 2 → zIs g 3 a0 ∧ zCal X d yX3_at wX3_at [.ref a0, .int x5, .int x3] g (fun r g_38 => ∃ v_39 : Int32, r = some (.int v_39) ∧ zCal X d yX3_not wX3_not [.int v_39] g_38 (fun r g_40 => ∃ v_41 : Int32, r = some (.int v_41) ∧ K (some (.int v_41)) g_40) KX) KX) ∧ (v_10 = 3 → zIs g 3 a0 ∧ zCal X d yX3_at wX3_at [.ref a0, .int t0, .int x3] g (fun r g_42 => ∃ v_43 : Int32, r = some (.int v_43) ∧ zIs g_42 3 a0 ∧ zCal X d yX3_at wX3_at [.ref a0, .int x5, .int x3] g_42 (fun r g_44 => ∃ v_45 : Int32, r = some (.int v_45) ∧ zCal X d yX3_and wX3_and [.int v_43, .int v_45] g_44 (fun r g_46 => ∃ v_47 : Int32, r = some (.int v_47) ∧ K (some (.int v_47)) g_46) KX) KX) KX) ∧ (v_10 = 4 → zIs g 3 a0 ∧ zCal X d yX3_at wX3_at [.ref a0, .int t0, .int x3] g (fun r g_48 => ∃ v_49 : Int32, r = some (.int v_49) ∧ zIs g_48 3 a0 ∧ zCal X d yX3_at wX3_at [.ref a0, .int x5, .int x3] g_48 (fun r g_50 => ∃ v_51 : Int32, r = some (.int v_51) ∧ zCal X d yX3_or wX3_or [.int v_49, .int v_51] g_50 (fun r g_52 => ∃ v_53 : Int32, r = some (.int v_53) ∧ K (some (.int v_53)) g_52) KX) KX) KX) ∧ (v_10 = 5 → (x3 ≤ 0 → K (some (.int 0)) g) ∧ (¬ x3 ≤ 0 → zIs g 3 a0 ∧ zCal X d yX3_at wX3_at [.ref a0, .int x5, .int (x3 - 1)] g (fun r g_54 => ∃ v_55 : Int32, r = some (.int v_55) ∧ K (some (.int v_55)) g_54) KX)) ∧ (v_10 = 6 → ∃ (fs_56 : List Value) (a_57 : Nat), zGo g 3 a0 = some fs_56 ∧ fs_56[18]? = some (.ref a_57) ∧ ∃ (n_58 : Nat) (f_59 : Nat → Int32), zGi g 18 a_57 = some (n_58, f_59) ∧ vp_in x4 n_58 ∧ ∀ v_60 : Int32, v_60 = f_59 x4.toNatClampNeg → zIs g 3 a0 ∧ zCal X d yX3_sinceAt wX3_sinceAt [.ref a0, .int t0, .int x5, .int x3, .int v_60] g (fun r g_61 => ∃ v_62 : Int32, r = some (.int v_62) ∧ K (some (.int v_62)) g_61) KX) ∧ (v_10 = 7 → ∃ (fs_63 : List Value) (a_64 : Nat), zGo g 3 a0 = some fs_63 ∧ fs_63[18]? = some (.ref a_64) ∧ ∃ (n_65 : Nat) (f_66 : Nat → Int32), zGi g 18 a_64 = some (n_65, f_66) ∧ vp_in x4 n_65 ∧ ∀ v_67 : Int32, v_67 = f_66 x4.toNatClampNeg → zIs g 3 a0 ∧ zCal X d yX3_onceAt wX3_onceAt [.ref a0, .int x5, .int x3, .int v_67] g (fun r g_68 => ∃ v_69 : Int32, r = some (.int v_69) ∧ K (some (.int v_69)) g_68) KX) ∧ (v_10 = 8 → ∃ (fs_70 : List Value) (v_71 : Int32), zGo g 3 a0 = some fs_70 ∧ fs_70[27]? = some (.int v_71) ∧ (v_71 ≤ (x3 + 1) → ∃ (fs_72 : List Value) (v_73 : Int32), zGo g 3 a0 = some fs_72 ∧ fs_72[2]? = some (.int v_73) ∧ (v_73 = 0 → K (some (.int 2)) g) ∧ (¬ v_73 = 0 → K (some (.int 0)) g)) ∧ (¬ v_71 ≤ (x3 + 1) → zIs g 3 a0 ∧ zCal X d yX3_at wX3_at [.ref a0, .int x5, .int (x3 + 1)] g (fun r g_74 => ∃ v_75 : Int32, r = some (.int v_75) ∧ K (some (.int v_75)) g_74) KX)) ∧ (v_10 = 9 → ∃ (fs_76 : List Value) (a_77 : Nat), zGo g 3 a0 = some fs_76 ∧ fs_76[18]? = some (.ref a_77) ∧ ∃ (n_78 : Nat) (f_79 : Nat → Int32), zGi g 18 a_77 = some (n_78, f_79) ∧ vp_in x4 n_78 ∧ ∀ v_80 : Int32, v_80 = f_79 x4.toNatClampNeg → zIs g 3 a0 ∧ zCal X d yX3_untilAt wX3_untilAt [.ref a0, .int t0, .int x5, .int x3, .int v_80] g (fun r g_81 => ∃ v_82 : Int32, r = some (.int v_82) ∧ K (some (.int v_82)) g_81) KX) ∧ (v_10 = 10 → ∃ (fs_83 : List Value) (a_84 : Nat), zGo g 3 a0 = some fs_83 ∧ fs_83[18]? = some (.ref a_84) ∧ ∃ (n_85 : Nat) (f_86 : Nat → Int32), zGi g 18 a_84 = some (n_85, f_86) ∧ vp_in x4 n_85 ∧ ∀ v_87 : Int32, v_87 = f_86 x4.toNatClampNeg → zIs g 3 a0 ∧ zCal X d yX3_soonAt wX3_soonAt [.ref a0, .int x5, .int x3, .int v_87] g (fun r g_88 => ∃ v_89 : Int32, r = some (.int v_89) ∧ K (some (.int v_89)) g_88) KX) ∧ (v_10.toInt < 0 ∨ 10 < v_10.toInt → ∃ (fs_90 : List Value) (a_91 : Nat), zGo g 3 a0 = some fs_90 ∧ fs_90[17]? = some (.ref a_91) ∧ ∃ (n_92 : Nat) (f_93 : Nat → Int32), zGi g 17 a_91 = some (n_92, f_93) ∧ vp_in x4 n_92 ∧ ∀ v_94 : Int32, v_94 = f_93 x4.toNatClampNeg → ∃ (fs_95 : List Value) (a_96 : Nat), zGo g 3 a0 = some fs_95 ∧ fs_95[18]? = some (.ref a_96) ∧ ∃ (n_97 : Nat) (f_98 : Nat → Int32), zGi g 18 a_96 = some (n_97, f_98) ∧ vp_in x4 n_97 ∧ ∀ v_99 : Int32, v_99 = f_98 x4.toNatClampNeg → zIs g 3 a0 ∧ zCal X d yX3_manyAt wX3_manyAt [.ref a0, .int x5, .int x3, .int v_94, .int v_99] g (fun r g_100 => ∃ v_101 : Int32, r = some (.int v_101) ∧ K (some (.int v_101)) g_100) KX)) : GW X E 8 g 31 [(0, .ref a0), (3, .int x3), (4, .int x4), (5, .int x5)] [.int t0] := by
  intro H locs ls hR hS hl
  refine lv_istore (lv' := [(6, .int t0), (0, .ref a0), (3, .int x3), (4, .int x4), (5, .int x5)]) C.x C.b dX3_tellsAt_31 hl (by decide) rfl (fun ls hl => ?_)
  refine lv_aload_n C.x C.b dX3_tellsAt_33 rfl (lv_at hl 1 rfl) ?_
  obtain ⟨fs_1, a_2, q1, q2, h⟩ := h
  refine z_get C hR q1 rfl (ci := 3) rfl in_X3 28 (by decide) q1665 (fun _ h => h) q2 dX3_tellsAt_34 ?_
  refine lv_iload_n C.x C.b dX3_tellsAt_37 rfl (lv_at hl 2 rfl) ?_
  obtain ⟨n_3, f_4, q1, q2, h⟩ := h
  refine z_iald C hR q1 (by decide) q2 dX3_tellsAt_38 ?_
  have h := h _ rfl
  generalize f_4 x3.toNatClampNeg = v_5 at h ⊢
  refine lv_istore (lv' := [(7, .int v_5), (6, .int t0), (0, .ref a0), (3, .int x3), (4, .int x4), (5, .int x5)]) C.x C.b dX3_tellsAt_39 hl (by decide) rfl (fun ls hl => ?_)
  refine lv_aload_n C.x C.b dX3_tellsAt_41 rfl (lv_at hl 2 rfl) ?_
  obtain ⟨fs_6, a_7, q1, q2, h⟩ := h
  refine z_get C hR q1 rfl (ci := 3) rfl in_X3 16 (by decide) q1653 (fun _ h => h) q2 dX3_tellsAt_42 ?_
  refine lv_iload C.x C.b dX3_tellsAt_45 (lv_at hl 4 rfl) ?_
  obtain ⟨n_8, f_9, q1, q2, h⟩ := h
  refine z_iald C hR q1 (by decide) q2 dX3_tellsAt_47 ?_
  have h := h _ rfl
  generalize f_9 x4.toNatClampNeg = v_10 at h ⊢
  obtain ⟨h_0, h_1, h_2, h_3, h_4, h_5, h_6, h_7, h_8, h_9, h_10, hd_⟩ := h
  rcases zsw_0_10 v_10 with c | c | c | c | c | c | c | c | c | c | c | c
  · have h := h_0 c; clear h_0 h_1 h_2 h_3 h_4 h_5 h_6 h_7 h_8 h_9 h_10 hd_
    refine lv_tableIn (off := 60) (tgt := 108) C.x C.b dX3_tellsAt_48 (by rw [c]; decide) (by rw [c]; decide) (by rw [c]; rfl) (by decide) ?_
    refine lv_aload_n C.x C.b dX3_tellsAt_108 rfl (lv_at hl 2 rfl) ?_
    obtain ⟨fs_11, a_12, q1, q2, h⟩ := h
    refine z_get C hR q1 rfl (ci := 3) rfl in_X3 8 (by decide) q1645 (fun _ h => h) q2 dX3_tellsAt_109 ?_
    refine lv_iload C.x C.b dX3_tellsAt_112 (lv_at hl 0 rfl) ?_
    obtain ⟨n_13, f_14, q1, q2, h⟩ := h
    refine z_iald C hR q1 (by decide) q2 dX3_tellsAt_114 ?_
    have h := h _ rfl
    generalize f_14 v_5.toNatClampNeg = v_15 at h ⊢
    refine lv_aload_n C.x C.b dX3_tellsAt_115 rfl (lv_at hl 2 rfl) ?_
    obtain ⟨fs_16, a_17, q1, q2, h⟩ := h
    refine z_get C hR q1 rfl (ci := 3) rfl in_X3 17 (by decide) q1654 (fun _ h => h) q2 dX3_tellsAt_116 ?_
    refine lv_iload C.x C.b dX3_tellsAt_119 (lv_at hl 4 rfl) ?_
    obtain ⟨n_18, f_19, q1, q2, h⟩ := h
    refine z_iald C hR q1 (by decide) q2 dX3_tellsAt_121 ?_
    have h := h _ rfl
    generalize f_19 x4.toNatClampNeg = v_20 at h ⊢
    obtain ⟨h1, h2⟩ := h
    refine lv_icmp_ne (tgt := 129) C.x C.b dX3_tellsAt_122 (by decide) (fun c => ?_) (fun c => ?_)
    · have h := h1 c; clear h1 h2
      refine lv_iconst (v := 0) C.x C.b dX3_tellsAt_129 (by decide) ?_
      exact z_iret C hQ dX3_tellsAt_130 h H locs ls hR hS hl
    · have h := h2 c; clear h1 h2
      refine lv_iconst (v := 1) C.x C.b dX3_tellsAt_125 (by decide) ?_
      refine lv_goto (tgt := 130) C.x C.b dX3_tellsAt_126 (by decide) ?_
      exact z_iret C hQ dX3_tellsAt_130 h H locs ls hR hS hl
  · have h := h_1 c; clear h_0 h_1 h_2 h_3 h_4 h_5 h_6 h_7 h_8 h_9 h_10 hd_
    refine lv_tableIn (off := 83) (tgt := 131) C.x C.b dX3_tellsAt_48 (by rw [c]; decide) (by rw [c]; decide) (by rw [c]; rfl) (by decide) ?_
    refine lv_aload_n C.x C.b dX3_tellsAt_131 rfl (lv_at hl 2 rfl) ?_
    refine lv_aload_n C.x C.b dX3_tellsAt_132 rfl (lv_at hl 2 rfl) ?_
    obtain ⟨fs_21, a_22, q1, q2, h⟩ := h
    refine z_get C hR q1 rfl (ci := 3) rfl in_X3 10 (by decide) q1647 (fun _ h => h) q2 dX3_tellsAt_133 ?_
    refine lv_iload C.x C.b dX3_tellsAt_136 (lv_at hl 0 rfl) ?_
    obtain ⟨n_23, f_24, q1, q2, h⟩ := h
    refine z_iald C hR q1 (by decide) q2 dX3_tellsAt_138 ?_
    have h := h _ rfl
    generalize f_24 v_5.toNatClampNeg = v_25 at h ⊢
    refine lv_aload_n C.x C.b dX3_tellsAt_139 rfl (lv_at hl 2 rfl) ?_
    obtain ⟨fs_26, a_27, q1, q2, h⟩ := h
    refine z_get C hR q1 rfl (ci := 3) rfl in_X3 17 (by decide) q1654 (fun _ h => h) q2 dX3_tellsAt_140 ?_
    refine lv_iload C.x C.b dX3_tellsAt_143 (lv_at hl 4 rfl) ?_
    obtain ⟨n_28, f_29, q1, q2, h⟩ := h
    refine z_iald C hR q1 (by decide) q2 dX3_tellsAt_145 ?_
    have h := h _ rfl
    generalize f_29 x4.toNatClampNeg = v_30 at h ⊢
    refine lv_aload_n C.x C.b dX3_tellsAt_146 rfl (lv_at hl 2 rfl) ?_
    obtain ⟨fs_31, a_32, q1, q2, h⟩ := h
    refine z_get C hR q1 rfl (ci := 3) rfl in_X3 18 (by decide) q1655 (fun _ h => h) q2 dX3_tellsAt_147 ?_
    refine lv_iload C.x C.b dX3_tellsAt_150 (lv_at hl 4 rfl) ?_
    obtain ⟨n_33, f_34, q1, q2, h⟩ := h
    refine z_iald C hR q1 (by decide) q2 dX3_tellsAt_152 ?_
    have h := h _ rfl
    generalize f_34 x4.toNatClampNeg = v_35 at h ⊢
    refine z_callV C hR hS hl (n := 3) (C1 := RX3) (T := TX3) (N := 35) (ci := 3) (y := yX3_isValue) (bytes := cX3_isValue) (maxL := 4) (rt := (some .boolean)) (As := [.int v_25, .int v_30, .int v_35]) (rest := []) h.1 rfl (lw_V q1812 q1814 qs38 q82 q1815) hdV_X3_isValue (by decide) rfl rfl (Nat.le_of_ble_eq_true rfl) dX3_tellsAt_153 h.2 (fun r g_36 hk_ => ?_) (fun x g1 h => z_out C hQ h)
    clear h; obtain ⟨v_37, rfl, zb_, h⟩ := hk_
    show GW X E 8 g_36 156 [(7, .int v_5), (6, .int t0), (0, .ref a0), (3, .int x3), (4, .int x4), (5, .int x5)] [.int v_37]
    intro H locs ls hR hS hl
    obtain ⟨h1, h2⟩ := h
    refine lv_if_eq (tgt := 163) C.x C.b dX3_tellsAt_156 (by decide) (fun c => ?_) (fun c => ?_)
    · have h := h1 c; clear h1 h2
      refine lv_iconst (v := 0) C.x C.b dX3_tellsAt_163 (by decide) ?_
      exact z_iret C hQ dX3_tellsAt_164 h H locs ls hR hS hl
    · have h := h2 c; clear h1 h2
      refine lv_iconst (v := 1) C.x C.b dX3_tellsAt_159 (by decide) ?_
      refine lv_goto (tgt := 164) C.x C.b dX3_tellsAt_160 (by decide) ?_
      exact z_iret C hQ dX3_tellsAt_164 h H locs ls hR hS hl
  · have h := h_2 c; clear h_0 h_1 h_2 h_3 h_4 h_5 h_6 h_7 h_8 h_9 h_10 hd_
    refine lv_tableIn (off := 117) (tgt := 165) C.x C.b dX3_tellsAt_48 (by rw [c]; decide) (by rw [c]; decide) (by rw [c]; rfl) (by decide) ?_
    refine lv_aload_n C.x C.b dX3_tellsAt_165 rfl (lv_at hl 2 rfl) ?_
    refine lv_iload C.x C.b dX3_tellsAt_166 (lv_at hl 5 rfl) ?_
    refine lv_iload_n C.x C.b dX3_tellsAt_168 rfl (lv_at hl 3 rfl) ?_
    refine z_callV C hR hS hl (n := 2) (C1 := RX3) (T := TX3) (N := 35) (ci := 3) (y := yX3_at) (bytes := cX3_at) (maxL := 3) (rt := (some .int)) (As := [.int x5, .int x3]) (rest := []) h.1 rfl (lw_V q1816 q1818 qs39 q82 q1819) hdV_X3_at (by decide) rfl rfl (Nat.le_of_ble_eq_true rfl) dX3_tellsAt_169 h.2 (fun r g_38 hk_ => ?_) (fun x g1 h => z_out C hQ h)
    clear h; obtain ⟨v_39, rfl, h⟩ := hk_
    show GW X E 8 g_38 172 [(7, .int v_5), (6, .int t0), (0, .ref a0), (3, .int x3), (4, .int x4), (5, .int x5)] [.int v_39]
    intro H locs ls hR hS hl
    refine z_callS C hR hS hl (n := 1) (y := yX3_not) (bytes := cX3_not) (maxL := 1) (rt := (some .int)) (As := [.int v_39]) (rest := []) (lw_S q1820 q1821 q82 q1822) hdS_X3_not (by decide) rfl rfl (Nat.le_of_ble_eq_true rfl) dX3_tellsAt_172 h (fun r g_40 hk_ => ?_) (fun x g1 h => z_out C hQ h)
    clear h; obtain ⟨v_41, rfl, h⟩ := hk_
    show GW X E 8 g_40 175 [(7, .int v_5), (6, .int t0), (0, .ref a0), (3, .int x3), (4, .int x4), (5, .int x5)] [.int v_41]
    intro H locs ls hR hS hl
    exact z_iret C hQ dX3_tellsAt_175 h H locs ls hR hS hl
  · have h := h_3 c; clear h_0 h_1 h_2 h_3 h_4 h_5 h_6 h_7 h_8 h_9 h_10 hd_
    refine lv_tableIn (off := 128) (tgt := 176) C.x C.b dX3_tellsAt_48 (by rw [c]; decide) (by rw [c]; decide) (by rw [c]; rfl) (by decide) ?_
    refine lv_aload_n C.x C.b dX3_tellsAt_176 rfl (lv_at hl 2 rfl) ?_
    refine lv_iload C.x C.b dX3_tellsAt_177 (lv_at hl 1 rfl) ?_
    refine lv_iload_n C.x C.b dX3_tellsAt_179 rfl (lv_at hl 3 rfl) ?_
    refine z_callV C hR hS hl (n := 2) (C1 := RX3) (T := TX3) (N := 35) (ci := 3) (y := yX3_at) (bytes := cX3_at) (maxL := 3) (rt := (some .int)) (As := [.int t0, .int x3]) (rest := []) h.1 rfl (lw_V q1816 q1818 qs39 q82 q1819) hdV_X3_at (by decide) rfl rfl (Nat.le_of_ble_eq_true rfl) dX3_tellsAt_180 h.2 (fun r g_42 hk_ => ?_) (fun x g1 h => z_out C hQ h)
    clear h; obtain ⟨v_43, rfl, h⟩ := hk_
    show GW X E 8 g_42 183 [(7, .int v_5), (6, .int t0), (0, .ref a0), (3, .int x3), (4, .int x4), (5, .int x5)] [.int v_43]
    intro H locs ls hR hS hl
    refine lv_aload_n C.x C.b dX3_tellsAt_183 rfl (lv_at hl 2 rfl) ?_
    refine lv_iload C.x C.b dX3_tellsAt_184 (lv_at hl 5 rfl) ?_
    refine lv_iload_n C.x C.b dX3_tellsAt_186 rfl (lv_at hl 3 rfl) ?_
    refine z_callV C hR hS hl (n := 2) (C1 := RX3) (T := TX3) (N := 35) (ci := 3) (y := yX3_at) (bytes := cX3_at) (maxL := 3) (rt := (some .int)) (As := [.int x5, .int x3]) (rest := [.int v_43]) h.1 rfl (lw_V q1816 q1818 qs39 q82 q1819) hdV_X3_at (by decide) rfl rfl (Nat.le_of_ble_eq_true rfl) dX3_tellsAt_187 h.2 (fun r g_44 hk_ => ?_) (fun x g1 h => z_out C hQ h)
    clear h; obtain ⟨v_45, rfl, h⟩ := hk_
    show GW X E 8 g_44 190 [(7, .int v_5), (6, .int t0), (0, .ref a0), (3, .int x3), (4, .int x4), (5, .int x5)] [.int v_45, .int v_43]
    intro H locs ls hR hS hl
    refine z_callS C hR hS hl (n := 2) (y := yX3_and) (bytes := cX3_and) (maxL := 2) (rt := (some .int)) (As := [.int v_43, .int v_45]) (rest := []) (lw_S q1823 q1824 q82 q1825) hdS_X3_and (by decide) rfl rfl (Nat.le_of_ble_eq_true rfl) dX3_tellsAt_190 h (fun r g_46 hk_ => ?_) (fun x g1 h => z_out C hQ h)
    clear h; obtain ⟨v_47, rfl, h⟩ := hk_
    show GW X E 8 g_46 193 [(7, .int v_5), (6, .int t0), (0, .ref a0), (3, .int x3), (4, .int x4), (5, .int x5)] [.int v_47]
    intro H locs ls hR hS hl
    exact z_iret C hQ dX3_tellsAt_193 h H locs ls hR hS hl
  · have h := h_4 c; clear h_0 h_1 h_2 h_3 h_4 h_5 h_6 h_7 h_8 h_9 h_10 hd_
    refine lv_tableIn (off := 146) (tgt := 194) C.x C.b dX3_tellsAt_48 (by rw [c]; decide) (by rw [c]; decide) (by rw [c]; rfl) (by decide) ?_
    refine lv_aload_n C.x C.b dX3_tellsAt_194 rfl (lv_at hl 2 rfl) ?_
    refine lv_iload C.x C.b dX3_tellsAt_195 (lv_at hl 1 rfl) ?_
    refine lv_iload_n C.x C.b dX3_tellsAt_197 rfl (lv_at hl 3 rfl) ?_
    refine z_callV C hR hS hl (n := 2) (C1 := RX3) (T := TX3) (N := 35) (ci := 3) (y := yX3_at) (bytes := cX3_at) (maxL := 3) (rt := (some .int)) (As := [.int t0, .int x3]) (rest := []) h.1 rfl (lw_V q1816 q1818 qs39 q82 q1819) hdV_X3_at (by decide) rfl rfl (Nat.le_of_ble_eq_true rfl) dX3_tellsAt_198 h.2 (fun r g_48 hk_ => ?_) (fun x g1 h => z_out C hQ h)
    clear h; obtain ⟨v_49, rfl, h⟩ := hk_
    show GW X E 8 g_48 201 [(7, .int v_5), (6, .int t0), (0, .ref a0), (3, .int x3), (4, .int x4), (5, .int x5)] [.int v_49]
    intro H locs ls hR hS hl
    refine lv_aload_n C.x C.b dX3_tellsAt_201 rfl (lv_at hl 2 rfl) ?_
    refine lv_iload C.x C.b dX3_tellsAt_202 (lv_at hl 5 rfl) ?_
    refine lv_iload_n C.x C.b dX3_tellsAt_204 rfl (lv_at hl 3 rfl) ?_
    refine z_callV C hR hS hl (n := 2) (C1 := RX3) (T := TX3) (N := 35) (ci := 3) (y := yX3_at) (bytes := cX3_at) (maxL := 3) (rt := (some .int)) (As := [.int x5, .int x3]) (rest := [.int v_49]) h.1 rfl (lw_V q1816 q1818 qs39 q82 q1819) hdV_X3_at (by decide) rfl rfl (Nat.le_of_ble_eq_true rfl) dX3_tellsAt_205 h.2 (fun r g_50 hk_ => ?_) (fun x g1 h => z_out C hQ h)
    clear h; obtain ⟨v_51, rfl, h⟩ := hk_
    show GW X E 8 g_50 208 [(7, .int v_5), (6, .int t0), (0, .ref a0), (3, .int x3), (4, .int x4), (5, .int x5)] [.int v_51, .int v_49]
    intro H locs ls hR hS hl
    refine z_callS C hR hS hl (n := 2) (y := yX3_or) (bytes := cX3_or) (maxL := 2) (rt := (some .int)) (As := [.int v_49, .int v_51]) (rest := []) (lw_S q1826 q1827 q82 q1828) hdS_X3_or (by decide) rfl rfl (Nat.le_of_ble_eq_true rfl) dX3_tellsAt_208 h (fun r g_52 hk_ => ?_) (fun x g1 h => z_out C hQ h)
    clear h; obtain ⟨v_53, rfl, h⟩ := hk_
    show GW X E 8 g_52 211 [(7, .int v_5), (6, .int t0), (0, .ref a0), (3, .int x3), (4, .int x4), (5, .int x5)] [.int v_53]
    intro H locs ls hR hS hl
    exact z_iret C hQ dX3_tellsAt_211 h H locs ls hR hS hl
  · have h := h_5 c; clear h_0 h_1 h_2 h_3 h_4 h_5 h_6 h_7 h_8 h_9 h_10 hd_
    refine lv_tableIn (off := 164) (tgt := 212) C.x C.b dX3_tellsAt_48 (by rw [c]; decide) (by rw [c]; decide) (by rw [c]; rfl) (by decide) ?_
    refine lv_iload_n C.x C.b dX3_tellsAt_212 rfl (lv_at hl 3 rfl) ?_
    obtain ⟨h1, h2⟩ := h
    refine lv_if_le (tgt := 228) C.x C.b dX3_tellsAt_213 (by decide) (fun c => ?_) (fun c => ?_)
    · have h := h1 c; clear h1 h2
      refine lv_iconst (v := 0) C.x C.b dX3_tellsAt_228 (by decide) ?_
      exact z_iret C hQ dX3_tellsAt_229 h H locs ls hR hS hl
    · have h := h2 c; clear h1 h2
      refine lv_aload_n C.x C.b dX3_tellsAt_216 rfl (lv_at hl 2 rfl) ?_
      refine lv_iload C.x C.b dX3_tellsAt_217 (lv_at hl 5 rfl) ?_
      refine lv_iload_n C.x C.b dX3_tellsAt_219 rfl (lv_at hl 3 rfl) ?_
      refine lv_iconst (v := 1) C.x C.b dX3_tellsAt_220 (by decide) ?_
      refine lv_isub C.x C.b dX3_tellsAt_221 ?_
      refine z_callV C hR hS hl (n := 2) (C1 := RX3) (T := TX3) (N := 35) (ci := 3) (y := yX3_at) (bytes := cX3_at) (maxL := 3) (rt := (some .int)) (As := [.int x5, .int (x3 - 1)]) (rest := []) h.1 rfl (lw_V q1816 q1818 qs39 q82 q1819) hdV_X3_at (by decide) rfl rfl (Nat.le_of_ble_eq_true rfl) dX3_tellsAt_222 h.2 (fun r g_54 hk_ => ?_) (fun x g1 h => z_out C hQ h)
      clear h; obtain ⟨v_55, rfl, h⟩ := hk_
      show GW X E 8 g_54 225 [(7, .int v_5), (6, .int t0), (0, .ref a0), (3, .int x3), (4, .int x4), (5, .int x5)] [.int v_55]
      intro H locs ls hR hS hl
      refine lv_goto (tgt := 229) C.x C.b dX3_tellsAt_225 (by decide) ?_
      exact z_iret C hQ dX3_tellsAt_229 h H locs ls hR hS hl
  · have h := h_6 c; clear h_0 h_1 h_2 h_3 h_4 h_5 h_6 h_7 h_8 h_9 h_10 hd_
    refine lv_tableIn (off := 182) (tgt := 230) C.x C.b dX3_tellsAt_48 (by rw [c]; decide) (by rw [c]; decide) (by rw [c]; rfl) (by decide) ?_
    refine lv_aload_n C.x C.b dX3_tellsAt_230 rfl (lv_at hl 2 rfl) ?_
    refine lv_iload C.x C.b dX3_tellsAt_231 (lv_at hl 1 rfl) ?_
    refine lv_iload C.x C.b dX3_tellsAt_233 (lv_at hl 5 rfl) ?_
    refine lv_iload_n C.x C.b dX3_tellsAt_235 rfl (lv_at hl 3 rfl) ?_
    refine lv_aload_n C.x C.b dX3_tellsAt_236 rfl (lv_at hl 2 rfl) ?_
    obtain ⟨fs_56, a_57, q1, q2, h⟩ := h
    refine z_get C hR q1 rfl (ci := 3) rfl in_X3 18 (by decide) q1655 (fun _ h => h) q2 dX3_tellsAt_237 ?_
    refine lv_iload C.x C.b dX3_tellsAt_240 (lv_at hl 4 rfl) ?_
    obtain ⟨n_58, f_59, q1, q2, h⟩ := h
    refine z_iald C hR q1 (by decide) q2 dX3_tellsAt_242 ?_
    have h := h _ rfl
    generalize f_59 x4.toNatClampNeg = v_60 at h ⊢
    refine z_callV C hR hS hl (n := 4) (C1 := RX3) (T := TX3) (N := 35) (ci := 3) (y := yX3_sinceAt) (bytes := cX3_sinceAt) (maxL := 8) (rt := (some .int)) (As := [.int t0, .int x5, .int x3, .int v_60]) (rest := []) h.1 rfl (lw_V q1829 q1831 qs40 q82 q1832) hdV_X3_sinceAt (by decide) rfl rfl (Nat.le_of_ble_eq_true rfl) dX3_tellsAt_243 h.2 (fun r g_61 hk_ => ?_) (fun x g1 h => z_out C hQ h)
    clear h; obtain ⟨v_62, rfl, h⟩ := hk_
    show GW X E 8 g_61 246 [(7, .int v_5), (6, .int t0), (0, .ref a0), (3, .int x3), (4, .int x4), (5, .int x5)] [.int v_62]
    intro H locs ls hR hS hl
    exact z_iret C hQ dX3_tellsAt_246 h H locs ls hR hS hl
  · have h := h_7 c; clear h_0 h_1 h_2 h_3 h_4 h_5 h_6 h_7 h_8 h_9 h_10 hd_
    refine lv_tableIn (off := 199) (tgt := 247) C.x C.b dX3_tellsAt_48 (by rw [c]; decide) (by rw [c]; decide) (by rw [c]; rfl) (by decide) ?_
    refine lv_aload_n C.x C.b dX3_tellsAt_247 rfl (lv_at hl 2 rfl) ?_
    refine lv_iload C.x C.b dX3_tellsAt_248 (lv_at hl 5 rfl) ?_
    refine lv_iload_n C.x C.b dX3_tellsAt_250 rfl (lv_at hl 3 rfl) ?_
    refine lv_aload_n C.x C.b dX3_tellsAt_251 rfl (lv_at hl 2 rfl) ?_
    obtain ⟨fs_63, a_64, q1, q2, h⟩ := h
    refine z_get C hR q1 rfl (ci := 3) rfl in_X3 18 (by decide) q1655 (fun _ h => h) q2 dX3_tellsAt_252 ?_
    refine lv_iload C.x C.b dX3_tellsAt_255 (lv_at hl 4 rfl) ?_
    obtain ⟨n_65, f_66, q1, q2, h⟩ := h
    refine z_iald C hR q1 (by decide) q2 dX3_tellsAt_257 ?_
    have h := h _ rfl
    generalize f_66 x4.toNatClampNeg = v_67 at h ⊢
    refine z_callV C hR hS hl (n := 3) (C1 := RX3) (T := TX3) (N := 35) (ci := 3) (y := yX3_onceAt) (bytes := cX3_onceAt) (maxL := 6) (rt := (some .int)) (As := [.int x5, .int x3, .int v_67]) (rest := []) h.1 rfl (lw_V q1837 q1839 qs42 q82 q1840) hdV_X3_onceAt (by decide) rfl rfl (Nat.le_of_ble_eq_true rfl) dX3_tellsAt_258 h.2 (fun r g_68 hk_ => ?_) (fun x g1 h => z_out C hQ h)
    clear h; obtain ⟨v_69, rfl, h⟩ := hk_
    show GW X E 8 g_68 261 [(7, .int v_5), (6, .int t0), (0, .ref a0), (3, .int x3), (4, .int x4), (5, .int x5)] [.int v_69]
    intro H locs ls hR hS hl
    exact z_iret C hQ dX3_tellsAt_261 h H locs ls hR hS hl
  · have h := h_8 c; clear h_0 h_1 h_2 h_3 h_4 h_5 h_6 h_7 h_8 h_9 h_10 hd_
    refine lv_tableIn (off := 214) (tgt := 262) C.x C.b dX3_tellsAt_48 (by rw [c]; decide) (by rw [c]; decide) (by rw [c]; rfl) (by decide) ?_
    refine lv_iload_n C.x C.b dX3_tellsAt_262 rfl (lv_at hl 3 rfl) ?_
    refine lv_iconst (v := 1) C.x C.b dX3_tellsAt_263 (by decide) ?_
    refine lv_iadd C.x C.b dX3_tellsAt_264 ?_
    refine lv_aload_n C.x C.b dX3_tellsAt_265 rfl (lv_at hl 2 rfl) ?_
    obtain ⟨fs_70, v_71, q1, q2, h⟩ := h
    refine z_get C hR q1 rfl (ci := 3) rfl in_X3 27 (by decide) q1664 (fun _ h => h) q2 dX3_tellsAt_266 ?_
    obtain ⟨h1, h2⟩ := h
    refine lv_icmp_ge (tgt := 284) C.x C.b dX3_tellsAt_269 (by decide) (fun c => ?_) (fun c => ?_)
    · have h := h1 c; clear h1 h2
      refine lv_aload_n C.x C.b dX3_tellsAt_284 rfl (lv_at hl 2 rfl) ?_
      obtain ⟨fs_72, v_73, q1, q2, h⟩ := h
      refine z_get C hR q1 rfl (ci := 3) rfl in_X3 2 (by decide) q1639 (fun _ h => h) q2 dX3_tellsAt_285 ?_
      obtain ⟨h1, h2⟩ := h
      refine lv_if_eq (tgt := 295) C.x C.b dX3_tellsAt_288 (by decide) (fun c => ?_) (fun c => ?_)
      · have h := h1 c; clear h1 h2
        refine lv_iconst (v := 2) C.x C.b dX3_tellsAt_295 (by decide) ?_
        exact z_iret C hQ dX3_tellsAt_296 h H locs ls hR hS hl
      · have h := h2 c; clear h1 h2
        refine lv_iconst (v := 0) C.x C.b dX3_tellsAt_291 (by decide) ?_
        refine lv_goto (tgt := 296) C.x C.b dX3_tellsAt_292 (by decide) ?_
        exact z_iret C hQ dX3_tellsAt_296 h H locs ls hR hS hl
    · have h := h2 c; clear h1 h2
      refine lv_aload_n C.x C.b dX3_tellsAt_272 rfl (lv_at hl 2 rfl) ?_
      refine lv_iload C.x C.b dX3_tellsAt_273 (lv_at hl 5 rfl) ?_
      refine lv_iload_n C.x C.b dX3_tellsAt_275 rfl (lv_at hl 3 rfl) ?_
      refine lv_iconst (v := 1) C.x C.b dX3_tellsAt_276 (by decide) ?_
      refine lv_iadd C.x C.b dX3_tellsAt_277 ?_
      refine z_callV C hR hS hl (n := 2) (C1 := RX3) (T := TX3) (N := 35) (ci := 3) (y := yX3_at) (bytes := cX3_at) (maxL := 3) (rt := (some .int)) (As := [.int x5, .int (x3 + 1)]) (rest := []) h.1 rfl (lw_V q1816 q1818 qs39 q82 q1819) hdV_X3_at (by decide) rfl rfl (Nat.le_of_ble_eq_true rfl) dX3_tellsAt_278 h.2 (fun r g_74 hk_ => ?_) (fun x g1 h => z_out C hQ h)
      clear h; obtain ⟨v_75, rfl, h⟩ := hk_
      show GW X E 8 g_74 281 [(7, .int v_5), (6, .int t0), (0, .ref a0), (3, .int x3), (4, .int x4), (5, .int x5)] [.int v_75]
      intro H locs ls hR hS hl
      refine lv_goto (tgt := 296) C.x C.b dX3_tellsAt_281 (by decide) ?_
      exact z_iret C hQ dX3_tellsAt_296 h H locs ls hR hS hl
  · have h := h_9 c; clear h_0 h_1 h_2 h_3 h_4 h_5 h_6 h_7 h_8 h_9 h_10 hd_
    refine lv_tableIn (off := 249) (tgt := 297) C.x C.b dX3_tellsAt_48 (by rw [c]; decide) (by rw [c]; decide) (by rw [c]; rfl) (by decide) ?_
    refine lv_aload_n C.x C.b dX3_tellsAt_297 rfl (lv_at hl 2 rfl) ?_
    refine lv_iload C.x C.b dX3_tellsAt_298 (lv_at hl 1 rfl) ?_
    refine lv_iload C.x C.b dX3_tellsAt_300 (lv_at hl 5 rfl) ?_
    refine lv_iload_n C.x C.b dX3_tellsAt_302 rfl (lv_at hl 3 rfl) ?_
    refine lv_aload_n C.x C.b dX3_tellsAt_303 rfl (lv_at hl 2 rfl) ?_
    obtain ⟨fs_76, a_77, q1, q2, h⟩ := h
    refine z_get C hR q1 rfl (ci := 3) rfl in_X3 18 (by decide) q1655 (fun _ h => h) q2 dX3_tellsAt_304 ?_
    refine lv_iload C.x C.b dX3_tellsAt_307 (lv_at hl 4 rfl) ?_
    obtain ⟨n_78, f_79, q1, q2, h⟩ := h
    refine z_iald C hR q1 (by decide) q2 dX3_tellsAt_309 ?_
    have h := h _ rfl
    generalize f_79 x4.toNatClampNeg = v_80 at h ⊢
    refine z_callV C hR hS hl (n := 4) (C1 := RX3) (T := TX3) (N := 35) (ci := 3) (y := yX3_untilAt) (bytes := cX3_untilAt) (maxL := 8) (rt := (some .int)) (As := [.int t0, .int x5, .int x3, .int v_80]) (rest := []) h.1 rfl (lw_V q1841 q1843 qs43 q82 q1844) hdV_X3_untilAt (by decide) rfl rfl (Nat.le_of_ble_eq_true rfl) dX3_tellsAt_310 h.2 (fun r g_81 hk_ => ?_) (fun x g1 h => z_out C hQ h)
    clear h; obtain ⟨v_82, rfl, h⟩ := hk_
    show GW X E 8 g_81 313 [(7, .int v_5), (6, .int t0), (0, .ref a0), (3, .int x3), (4, .int x4), (5, .int x5)] [.int v_82]
    intro H locs ls hR hS hl
    exact z_iret C hQ dX3_tellsAt_313 h H locs ls hR hS hl
  · have h := h_10 c; clear h_0 h_1 h_2 h_3 h_4 h_5 h_6 h_7 h_8 h_9 h_10 hd_
    refine lv_tableIn (off := 266) (tgt := 314) C.x C.b dX3_tellsAt_48 (by rw [c]; decide) (by rw [c]; decide) (by rw [c]; rfl) (by decide) ?_
    refine lv_aload_n C.x C.b dX3_tellsAt_314 rfl (lv_at hl 2 rfl) ?_
    refine lv_iload C.x C.b dX3_tellsAt_315 (lv_at hl 5 rfl) ?_
    refine lv_iload_n C.x C.b dX3_tellsAt_317 rfl (lv_at hl 3 rfl) ?_
    refine lv_aload_n C.x C.b dX3_tellsAt_318 rfl (lv_at hl 2 rfl) ?_
    obtain ⟨fs_83, a_84, q1, q2, h⟩ := h
    refine z_get C hR q1 rfl (ci := 3) rfl in_X3 18 (by decide) q1655 (fun _ h => h) q2 dX3_tellsAt_319 ?_
    refine lv_iload C.x C.b dX3_tellsAt_322 (lv_at hl 4 rfl) ?_
    obtain ⟨n_85, f_86, q1, q2, h⟩ := h
    refine z_iald C hR q1 (by decide) q2 dX3_tellsAt_324 ?_
    have h := h _ rfl
    generalize f_86 x4.toNatClampNeg = v_87 at h ⊢
    refine z_callV C hR hS hl (n := 3) (C1 := RX3) (T := TX3) (N := 35) (ci := 3) (y := yX3_soonAt) (bytes := cX3_soonAt) (maxL := 6) (rt := (some .int)) (As := [.int x5, .int x3, .int v_87]) (rest := []) h.1 rfl (lw_V q1849 q1851 qs45 q82 q1852) hdV_X3_soonAt (by decide) rfl rfl (Nat.le_of_ble_eq_true rfl) dX3_tellsAt_325 h.2 (fun r g_88 hk_ => ?_) (fun x g1 h => z_out C hQ h)
    clear h; obtain ⟨v_89, rfl, h⟩ := hk_
    show GW X E 8 g_88 328 [(7, .int v_5), (6, .int t0), (0, .ref a0), (3, .int x3), (4, .int x4), (5, .int x5)] [.int v_89]
    intro H locs ls hR hS hl
    exact z_iret C hQ dX3_tellsAt_328 h H locs ls hR hS hl
  · have h := hd_ c; clear h_0 h_1 h_2 h_3 h_4 h_5 h_6 h_7 h_8 h_9 h_10 hd_
    refine lv_tableOut (tgt := 329) C.x C.b dX3_tellsAt_48 c (by decide) ?_
    refine lv_aload_n C.x C.b dX3_tellsAt_329 rfl (lv_at hl 2 rfl) ?_
    refine lv_iload C.x C.b dX3_tellsAt_330 (lv_at hl 5 rfl) ?_
    refine lv_iload_n C.x C.b dX3_tellsAt_332 rfl (lv_at hl 3 rfl) ?_
    refine lv_aload_n C.x C.b dX3_tellsAt_333 rfl (lv_at hl 2 rfl) ?_
    obtain ⟨fs_90, a_91, q1, q2, h⟩ := h
    refine z_get C hR q1 rfl (ci := 3) rfl in_X3 17 (by decide) q1654 (fun _ h => h) q2 dX3_tellsAt_334 ?_
    refine lv_iload C.x C.b dX3_tellsAt_337 (lv_at hl 4 rfl) ?_
    obtain ⟨n_92, f_93, q1, q2, h⟩ := h
    refine z_iald C hR q1 (by decide) q2 dX3_tellsAt_339 ?_
    have h := h _ rfl
    generalize f_93 x4.toNatClampNeg = v_94 at h ⊢
    refine lv_aload_n C.x C.b dX3_tellsAt_340 rfl (lv_at hl 2 rfl) ?_
    obtain ⟨fs_95, a_96, q1, q2, h⟩ := h
    refine z_get C hR q1 rfl (ci := 3) rfl in_X3 18 (by decide) q1655 (fun _ h => h) q2 dX3_tellsAt_341 ?_
    refine lv_iload C.x C.b dX3_tellsAt_344 (lv_at hl 4 rfl) ?_
    obtain ⟨n_97, f_98, q1, q2, h⟩ := h
    refine z_iald C hR q1 (by decide) q2 dX3_tellsAt_346 ?_
    have h := h _ rfl
    generalize f_98 x4.toNatClampNeg = v_99 at h ⊢
    refine z_callV C hR hS hl (n := 4) (C1 := RX3) (T := TX3) (N := 35) (ci := 3) (y := yX3_manyAt) (bytes := cX3_manyAt) (maxL := 8) (rt := (some .int)) (As := [.int x5, .int x3, .int v_94, .int v_99]) (rest := []) h.1 rfl (lw_V q1853 q1855 qs46 q82 q1856) hdV_X3_manyAt (by decide) rfl rfl (Nat.le_of_ble_eq_true rfl) dX3_tellsAt_347 h.2 (fun r g_100 hk_ => ?_) (fun x g1 h => z_out C hQ h)
    clear h; obtain ⟨v_101, rfl, h⟩ := hk_
    show GW X E 8 g_100 350 [(7, .int v_5), (6, .int t0), (0, .ref a0), (3, .int x3), (4, .int x4), (5, .int x5)] [.int v_101]
    intro H locs ls hR hS hl
    exact z_iret C hQ dX3_tellsAt_350 h H locs ls hR hS hl
set_option maxHeartbeats 4000000 in
theorem mX3_tellsAt {X : zX} {d : Nat} {g : zG} {K : Option Value → zG → Prop} {KX : String → zG → Prop} (hok : zOk X) (a0 : Nat) (x1 : Int32) (x2 : Int32) (x3 : Int32) (h : ∀ E : zM, zC X (d + 1) E RX3 cX3_tellsAt 8 (some .int) "tellsAt" → zQ X E K KX → (0 ≤ (x2 - 1) → ∃ (fs_1 : List Value) (a_2 : Nat), zGo g 3 a0 = some fs_1 ∧ fs_1[19]? = some (.ref a_2) ∧ ∃ (n_3 : Nat) (f_4 : Nat → Int32), zGi g 19 a_2 = some (n_3, f_4) ∧ vp_in (x1 + (x2 - 1)) n_3 ∧ ∀ v_5 : Int32, v_5 = f_4 (x1 + (x2 - 1)).toNatClampNeg → GW X E 8 g 31 [(0, .ref a0), (3, .int x3), (4, .int (x1 + x2)), (5, .int (x2 - 1))] [.int ((x2 - 1) - v_5)]) ∧ (¬ 0 ≤ (x2 - 1) → GW X E 8 g 31 [(0, .ref a0), (3, .int x3), (4, .int (x1 + x2)), (5, .int (x2 - 1))] [.int 0])) : zCal X (d + 1) yX3_tellsAt wX3_tellsAt [.ref a0, .int x1, .int x2, .int x3] g K KX := by
  refine z_enter hok pn_X3 (Nat.le_of_ble_eq_true rfl) (fun E C hQ => ?_)
  have C : zC X (d + 1) E RX3 cX3_tellsAt 8 (some .int) "tellsAt" := C
  have h := h E C hQ
  show GW X E 8 g 0 [(0, .ref a0), (1, .int x1), (2, .int x2), (3, .int x3)] []
  intro H locs ls hR hS hl
  refine lv_iload_n C.x C.b dX3_tellsAt_0 rfl (lv_at hl 1 rfl) ?_
  refine lv_iload_n C.x C.b dX3_tellsAt_1 rfl (lv_at hl 2 rfl) ?_
  refine lv_iadd C.x C.b dX3_tellsAt_2 ?_
  refine lv_istore (lv' := [(4, .int (x1 + x2)), (0, .ref a0), (1, .int x1), (2, .int x2), (3, .int x3)]) C.x C.b dX3_tellsAt_3 hl (by decide) rfl (fun ls hl => ?_)
  refine lv_iload_n C.x C.b dX3_tellsAt_5 rfl (lv_at hl 3 rfl) ?_
  refine lv_iconst (v := 1) C.x C.b dX3_tellsAt_6 (by decide) ?_
  refine lv_isub C.x C.b dX3_tellsAt_7 ?_
  refine lv_istore (lv' := [(5, .int (x2 - 1)), (4, .int (x1 + x2)), (0, .ref a0), (1, .int x1), (2, .int x2), (3, .int x3)]) C.x C.b dX3_tellsAt_8 hl (by decide) rfl (fun ls hl => ?_)
  refine lv_iload C.x C.b dX3_tellsAt_10 (lv_at hl 0 rfl) ?_
  obtain ⟨h1, h2⟩ := h
  refine lv_if_ge (tgt := 19) C.x C.b dX3_tellsAt_12 (by decide) (fun c => ?_) (fun c => ?_)
  · have h := h1 c; clear h1 h2
    refine lv_iload C.x C.b dX3_tellsAt_19 (lv_at hl 0 rfl) ?_
    refine lv_aload_n C.x C.b dX3_tellsAt_21 rfl (lv_at hl 2 rfl) ?_
    obtain ⟨fs_1, a_2, q1, q2, h⟩ := h
    refine z_get C hR q1 rfl (ci := 3) rfl in_X3 19 (by decide) q1656 (fun _ h => h) q2 dX3_tellsAt_22 ?_
    refine lv_iload_n C.x C.b dX3_tellsAt_25 rfl (lv_at hl 3 rfl) ?_
    refine lv_iload C.x C.b dX3_tellsAt_26 (lv_at hl 0 rfl) ?_
    refine lv_iadd C.x C.b dX3_tellsAt_28 ?_
    obtain ⟨n_3, f_4, q1, q2, h⟩ := h
    refine z_iald C hR q1 (by decide) q2 dX3_tellsAt_29 ?_
    have h := h _ rfl
    generalize f_4 (x1 + (x2 - 1)).toNatClampNeg = v_5 at h ⊢
    refine lv_isub C.x C.b dX3_tellsAt_30 ?_
    exact h H locs ls hR hS (lv_sub hl [2, 5, 1, 0] rfl)
  · have h := h2 c; clear h1 h2
    refine lv_iconst (v := 0) C.x C.b dX3_tellsAt_15 (by decide) ?_
    refine lv_goto (tgt := 31) C.x C.b dX3_tellsAt_16 (by decide) ?_
    exact h H locs ls hR hS (lv_sub hl [2, 5, 1, 0] rfl)
theorem hdS_X3_fromOf : yX3_fromOf.cls ≠ "java/lang/invoke/MethodHandle" ∧ yX3_fromOf.cls ≠ "java/lang/invoke/VarHandle" ∧ (parseMethodDescriptor yX3_fromOf.desc).map (fun d => d.parameters.length) = some 1 := by decide +kernel
theorem hdV_X3_tellsAt : yX3_tellsAt.cls = RX3 ∧ yX3_tellsAt.cls ≠ "java/lang/invoke/MethodHandle" ∧ yX3_tellsAt.cls ≠ "java/lang/invoke/VarHandle" ∧ (parseMethodDescriptor yX3_tellsAt.desc).map (fun d => d.parameters.length) = some 3 := by decide +kernel
set_option maxHeartbeats 4000000 in
theorem bX3_tellsAll_2 {X : zX} {d : Nat} {E : zM} {K : Option Value → zG → Prop} {KX : String → zG → Prop} (C : zC X (d + 1) E RX3 cX3_tellsAll 4 none "tellsAll") (hQ : zQ X E K KX) (g : zG) (a0 : Nat) (x1 : Int32) (x2 : Int32) (h : ∃ (fs_1 : List Value) (a_2 : Nat), zGo g 3 a0 = some fs_1 ∧ fs_1[23]? = some (.ref a_2) ∧ ∃ (n_3 : Nat) (f_4 : Nat → Int32), zGi g 23 a_2 = some (n_3, f_4) ∧ vp_in x1 n_3 ∧ ∀ v_5 : Int32, v_5 = f_4 x1.toNatClampNeg → (v_5 ≤ x2 → K none g) ∧ (¬ v_5 ≤ x2 → GW X E 4 g 14 [(0, .ref a0), (1, .int x1), (2, .int x2), (3, .int 0)] [])) : GW X E 4 g 2 [(0, .ref a0), (1, .int x1), (2, .int x2)] [] := by
  intro H locs ls hR hS hl
  refine lv_iload_n C.x C.b dX3_tellsAll_2 rfl (lv_at hl 2 rfl) ?_
  refine lv_aload_n C.x C.b dX3_tellsAll_3 rfl (lv_at hl 0 rfl) ?_
  obtain ⟨fs_1, a_2, q1, q2, h⟩ := h
  refine z_get C hR q1 rfl (ci := 3) rfl in_X3 23 (by decide) q1660 (fun _ h => h) q2 dX3_tellsAll_4 ?_
  refine lv_iload_n C.x C.b dX3_tellsAll_7 rfl (lv_at hl 1 rfl) ?_
  obtain ⟨n_3, f_4, q1, q2, h⟩ := h
  refine z_iald C hR q1 (by decide) q2 dX3_tellsAll_8 ?_
  have h := h _ rfl
  generalize f_4 x1.toNatClampNeg = v_5 at h ⊢
  obtain ⟨h1, h2⟩ := h
  refine lv_icmp_ge (tgt := 55) C.x C.b dX3_tellsAll_9 (by decide) (fun c => ?_) (fun c => ?_)
  · have h := h1 c; clear h1 h2
    exact z_vret C hQ dX3_tellsAll_55 h H locs ls hR hS hl
  · have h := h2 c; clear h1 h2
    refine lv_iconst (v := 0) C.x C.b dX3_tellsAll_12 (by decide) ?_
    refine lv_istore_n (lv' := [(3, .int 0), (0, .ref a0), (1, .int x1), (2, .int x2)]) C.x C.b dX3_tellsAll_13 rfl hl (by decide) rfl (fun ls hl => ?_)
    exact h H locs ls hR hS (lv_sub hl [1, 2, 3, 0] rfl)
set_option maxHeartbeats 4000000 in
theorem bX3_tellsAll_14 {X : zX} {d : Nat} {E : zM} {K : Option Value → zG → Prop} {KX : String → zG → Prop} (C : zC X (d + 1) E RX3 cX3_tellsAll 4 none "tellsAll") (hQ : zQ X E K KX) (g : zG) (a0 : Nat) (x1 : Int32) (x2 : Int32) (x3 : Int32) (h : ∃ (fs_1 : List Value) (v_2 : Int32), zGo g 3 a0 = some fs_1 ∧ fs_1[27]? = some (.int v_2) ∧ (v_2 ≤ x3 → GW X E 4 g 2 [(0, .ref a0), (1, .int x1), (2, .int (x2 + 1))] []) ∧ (¬ v_2 ≤ x3 → ∃ (fs_3 : List Value) (a_4 : Nat), zGo g 3 a0 = some fs_3 ∧ fs_3[32]? = some (.ref a_4) ∧ zCal X d yX3_fromOf wX3_fromOf [.int x1] g (fun r g_5 => ∃ v_6 : Int32, r = some (.int v_6) ∧ zIs g_5 3 a0 ∧ zCal X d yX3_tellsAt wX3_tellsAt [.ref a0, .int v_6, .int x2, .int x3] g_5 (fun r g_7 => ∃ v_8 : Int32, r = some (.int v_8) ∧ ∃ (n_9 : Nat) (f_10 : Nat → Int32), zGi g_7 32 a_4 = some (n_9, f_10) ∧ vp_in ((80 * x2) + x3) n_9 ∧ ∀ g_11 : zG, g_11 = zSi g_7 32 a_4 n_9 (upd f_10 ((80 * x2) + x3).toNatClampNeg v_8) → GW X E 4 g_11 14 [(0, .ref a0), (1, .int x1), (2, .int x2), (3, .int (x3 + 1))] []) KX) KX)) : GW X E 4 g 14 [(0, .ref a0), (1, .int x1), (2, .int x2), (3, .int x3)] [] := by
  intro H locs ls hR hS hl
  refine lv_iload_n C.x C.b dX3_tellsAll_14 rfl (lv_at hl 3 rfl) ?_
  refine lv_aload_n C.x C.b dX3_tellsAll_15 rfl (lv_at hl 0 rfl) ?_
  obtain ⟨fs_1, v_2, q1, q2, h⟩ := h
  refine z_get C hR q1 rfl (ci := 3) rfl in_X3 27 (by decide) q1664 (fun _ h => h) q2 dX3_tellsAll_16 ?_
  obtain ⟨h1, h2⟩ := h
  refine lv_icmp_ge (tgt := 49) C.x C.b dX3_tellsAll_19 (by decide) (fun c => ?_) (fun c => ?_)
  · have h := h1 c; clear h1 h2
    refine lv_iinc (v := x2 + 1) (lv' := [(2, .int (x2 + 1)), (0, .ref a0), (1, .int x1), (3, .int x3)]) C.x C.b dX3_tellsAll_49 hl (k := 2) rfl rfl (by decide) rfl (fun ls hl => ?_)
    refine lv_goto (tgt := 2) C.x C.b dX3_tellsAll_52 (by decide) ?_
    exact h H locs ls hR hS (lv_sub hl [1, 2, 0] rfl)
  · have h := h2 c; clear h1 h2
    refine lv_aload_n C.x C.b dX3_tellsAll_22 rfl (lv_at hl 0 rfl) ?_
    obtain ⟨fs_3, a_4, q1, q2, h⟩ := h
    refine z_get C hR q1 rfl (ci := 3) rfl in_X3 32 (by decide) q1669 (fun _ h => h) q2 dX3_tellsAll_23 ?_
    refine lv_bipush (v := 80) C.x C.b dX3_tellsAll_26 (by decide) ?_
    refine lv_iload_n C.x C.b dX3_tellsAll_28 rfl (lv_at hl 2 rfl) ?_
    refine lv_imul C.x C.b dX3_tellsAll_29 ?_
    refine lv_iload_n C.x C.b dX3_tellsAll_30 rfl (lv_at hl 3 rfl) ?_
    refine lv_iadd C.x C.b dX3_tellsAll_31 ?_
    refine lv_aload_n C.x C.b dX3_tellsAll_32 rfl (lv_at hl 0 rfl) ?_
    refine lv_iload_n C.x C.b dX3_tellsAll_33 rfl (lv_at hl 1 rfl) ?_
    refine z_callS C hR hS hl (n := 1) (y := yX3_fromOf) (bytes := cX3_fromOf) (maxL := 1) (rt := (some .int)) (As := [.int x1]) (rest := [.ref a0, .int ((80 * x2) + x3), .ref a_4]) (lw_S q1805 q1806 q82 q1807) hdS_X3_fromOf (by decide) rfl rfl (Nat.le_of_ble_eq_true rfl) dX3_tellsAll_34 h (fun r g_5 hk_ => ?_) (fun x g1 h => z_out C hQ h)
    clear h; obtain ⟨v_6, rfl, h⟩ := hk_
    show GW X E 4 g_5 37 [(0, .ref a0), (1, .int x1), (2, .int x2), (3, .int x3)] [.int v_6, .ref a0, .int ((80 * x2) + x3), .ref a_4]
    intro H locs ls hR hS hl
    refine lv_iload_n C.x C.b dX3_tellsAll_37 rfl (lv_at hl 2 rfl) ?_
    refine lv_iload_n C.x C.b dX3_tellsAll_38 rfl (lv_at hl 3 rfl) ?_
    refine z_callV C hR hS hl (n := 3) (C1 := RX3) (T := TX3) (N := 35) (ci := 3) (y := yX3_tellsAt) (bytes := cX3_tellsAt) (maxL := 8) (rt := (some .int)) (As := [.int v_6, .int x2, .int x3]) (rest := [.int ((80 * x2) + x3), .ref a_4]) h.1 rfl (lw_V q1808 q1810 qs37 q82 q1811) hdV_X3_tellsAt (by decide) rfl rfl (Nat.le_of_ble_eq_true rfl) dX3_tellsAll_39 h.2 (fun r g_7 hk_ => ?_) (fun x g1 h => z_out C hQ h)
    clear h; obtain ⟨v_8, rfl, h⟩ := hk_
    show GW X E 4 g_7 42 [(0, .ref a0), (1, .int x1), (2, .int x2), (3, .int x3)] [.int v_8, .int ((80 * x2) + x3), .ref a_4]
    intro H locs ls hR hS hl
    obtain ⟨n_9, f_10, q1, q2, h⟩ := h
    refine z_iast C hR hS q1 (by decide) q2 dX3_tellsAll_42 (fun H locs hR hS => ?_)
    have h := h _ rfl
    generalize zSi g_7 32 a_4 n_9 (upd f_10 ((80 * x2) + x3).toNatClampNeg v_8) = g_11 at h hR
    refine lv_iinc (v := x3 + 1) (lv' := [(3, .int (x3 + 1)), (0, .ref a0), (1, .int x1), (2, .int x2)]) C.x C.b dX3_tellsAll_43 hl (k := 3) rfl rfl (by decide) rfl (fun ls hl => ?_)
    refine lv_goto (tgt := 14) C.x C.b dX3_tellsAll_46 (by decide) ?_
    exact h H locs ls hR hS (lv_sub hl [1, 2, 3, 0] rfl)
set_option maxHeartbeats 4000000 in
theorem mX3_tellsAll {X : zX} {d : Nat} {g : zG} {K : Option Value → zG → Prop} {KX : String → zG → Prop} (hok : zOk X) (a0 : Nat) (x1 : Int32) (h : ∀ E : zM, zC X (d + 1) E RX3 cX3_tellsAll 4 none "tellsAll" → zQ X E K KX → GW X E 4 g 2 [(0, .ref a0), (1, .int x1), (2, .int 0)] []) : zCal X (d + 1) yX3_tellsAll wX3_tellsAll [.ref a0, .int x1] g K KX := by
  refine z_enter hok pn_X3 (Nat.le_of_ble_eq_true rfl) (fun E C hQ => ?_)
  have C : zC X (d + 1) E RX3 cX3_tellsAll 4 none "tellsAll" := C
  have h := h E C hQ
  show GW X E 4 g 0 [(0, .ref a0), (1, .int x1)] []
  intro H locs ls hR hS hl
  refine lv_iconst (v := 0) C.x C.b dX3_tellsAll_0 (by decide) ?_
  refine lv_istore_n (lv' := [(2, .int 0), (0, .ref a0), (1, .int x1)]) C.x C.b dX3_tellsAll_1 rfl hl (by decide) rfl (fun ls hl => ?_)
  exact h H locs ls hR hS (lv_sub hl [1, 2, 0] rfl)
theorem hdV_X3_tellsAll : yX3_tellsAll.cls = RX3 ∧ yX3_tellsAll.cls ≠ "java/lang/invoke/MethodHandle" ∧ yX3_tellsAll.cls ≠ "java/lang/invoke/VarHandle" ∧ (parseMethodDescriptor yX3_tellsAll.desc).map (fun d => d.parameters.length) = some 1 := by decide +kernel
set_option maxHeartbeats 4000000 in
theorem bX3_finds_11 {X : zX} {d : Nat} {E : zM} {K : Option Value → zG → Prop} {KX : String → zG → Prop} (C : zC X (d + 1) E RX3 cX3_finds 7 none "finds") (hQ : zQ X E K KX) (g : zG) (a0 : Nat) (x1 : Int32) (x2 : Int32) (x3 : Int32) (h : ∃ (fs_1 : List Value) (v_2 : Int32), zGo g 3 a0 = some fs_1 ∧ fs_1[29]? = some (.int v_2) ∧ (v_2 ≤ x3 → GW X E 7 g 39 [(0, .ref a0), (1, .int x1), (2, .int x2), (3, .int 0)] []) ∧ (¬ v_2 ≤ x3 → ∃ (fs_3 : List Value) (a_4 : Nat), zGo g 3 a0 = some fs_3 ∧ fs_3[33]? = some (.ref a_4) ∧ ∃ (fs_5 : List Value) (a_6 : Nat), zGo g 3 a0 = some fs_5 ∧ fs_5[30]? = some (.ref a_6) ∧ ∃ (n_7 : Nat) (f_8 : Nat → Int32), zGi g 30 a_6 = some (n_7, f_8) ∧ vp_in x3 n_7 ∧ ∀ v_9 : Int32, v_9 = f_8 x3.toNatClampNeg → ∃ (n_10 : Nat) (f_11 : Nat → Int32), zGi g 33 a_4 = some (n_10, f_11) ∧ vp_in v_9 n_10 ∧ ∀ g_12 : zG, g_12 = zSi g 33 a_4 n_10 (upd f_11 v_9.toNatClampNeg 1) → GW X E 7 g_12 11 [(0, .ref a0), (1, .int x1), (2, .int x2), (3, .int (x3 + 1))] [])) : GW X E 7 g 11 [(0, .ref a0), (1, .int x1), (2, .int x2), (3, .int x3)] [] := by
  intro H locs ls hR hS hl
  refine lv_iload_n C.x C.b dX3_finds_11 rfl (lv_at hl 3 rfl) ?_
  refine lv_aload_n C.x C.b dX3_finds_12 rfl (lv_at hl 0 rfl) ?_
  obtain ⟨fs_1, v_2, q1, q2, h⟩ := h
  refine z_get C hR q1 rfl (ci := 3) rfl in_X3 29 (by decide) q1666 (fun _ h => h) q2 dX3_finds_13 ?_
  obtain ⟨h1, h2⟩ := h
  refine lv_icmp_ge (tgt := 37) C.x C.b dX3_finds_16 (by decide) (fun c => ?_) (fun c => ?_)
  · have h := h1 c; clear h1 h2
    refine lv_iconst (v := 0) C.x C.b dX3_finds_37 (by decide) ?_
    refine lv_istore_n (lv' := [(3, .int 0), (0, .ref a0), (1, .int x1), (2, .int x2)]) C.x C.b dX3_finds_38 rfl hl (by decide) rfl (fun ls hl => ?_)
    exact h H locs ls hR hS (lv_sub hl [1, 2, 3, 0] rfl)
  · have h := h2 c; clear h1 h2
    refine lv_aload_n C.x C.b dX3_finds_19 rfl (lv_at hl 0 rfl) ?_
    obtain ⟨fs_3, a_4, q1, q2, h⟩ := h
    refine z_get C hR q1 rfl (ci := 3) rfl in_X3 33 (by decide) q1670 (fun _ h => h) q2 dX3_finds_20 ?_
    refine lv_aload_n C.x C.b dX3_finds_23 rfl (lv_at hl 0 rfl) ?_
    obtain ⟨fs_5, a_6, q1, q2, h⟩ := h
    refine z_get C hR q1 rfl (ci := 3) rfl in_X3 30 (by decide) q1667 (fun _ h => h) q2 dX3_finds_24 ?_
    refine lv_iload_n C.x C.b dX3_finds_27 rfl (lv_at hl 3 rfl) ?_
    obtain ⟨n_7, f_8, q1, q2, h⟩ := h
    refine z_iald C hR q1 (by decide) q2 dX3_finds_28 ?_
    have h := h _ rfl
    generalize f_8 x3.toNatClampNeg = v_9 at h ⊢
    refine lv_iconst (v := 1) C.x C.b dX3_finds_29 (by decide) ?_
    obtain ⟨n_10, f_11, q1, q2, h⟩ := h
    refine z_iast C hR hS q1 (by decide) q2 dX3_finds_30 (fun H locs hR hS => ?_)
    have h := h _ rfl
    generalize zSi g 33 a_4 n_10 (upd f_11 v_9.toNatClampNeg 1) = g_12 at h hR
    refine lv_iinc (v := x3 + 1) (lv' := [(3, .int (x3 + 1)), (0, .ref a0), (1, .int x1), (2, .int x2)]) C.x C.b dX3_finds_31 hl (k := 3) rfl rfl (by decide) rfl (fun ls hl => ?_)
    refine lv_goto (tgt := 11) C.x C.b dX3_finds_34 (by decide) ?_
    exact h H locs ls hR hS (lv_sub hl [1, 2, 3, 0] rfl)
set_option maxHeartbeats 4000000 in
theorem bX3_finds_39 {X : zX} {d : Nat} {E : zM} {K : Option Value → zG → Prop} {KX : String → zG → Prop} (C : zC X (d + 1) E RX3 cX3_finds 7 none "finds") (hQ : zQ X E K KX) (g : zG) (a0 : Nat) (x1 : Int32) (x2 : Int32) (x3 : Int32) (h : (10 ≤ x3 → K none g) ∧ (¬ 10 ≤ x3 → ∃ (fs_1 : List Value) (a_2 : Nat), zGo g 3 a0 = some fs_1 ∧ fs_1[21]? = some (.ref a_2) ∧ ∃ (n_3 : Nat) (f_4 : Nat → Int32), zGi g 121 a_2 = some (n_3, f_4) ∧ vp_in x1 n_3 ∧ ∀ v_5 : Int32, v_5 = f_4 x1.toNatClampNeg → (v_5 = 0 → (¬ x3 = 0 → ∃ (fs_6 : List Value), zGo g 3 a0 = some fs_6 ∧ 27 < fs_6.length ∧ ∀ g_7 : zG, g_7 = zSo g 3 a0 (fs_6.set 27 (.int 0)) → GW X E 7 g_7 93 [(0, .ref a0), (1, .int x1), (2, .int x2), (3, .int x3), (4, .int 0), (5, .int 0)] []) ∧ (x3 = 0 → ∃ (fs_8 : List Value), zGo g 3 a0 = some fs_8 ∧ 27 < fs_8.length ∧ ∀ g_9 : zG, g_9 = zSo g 3 a0 (fs_8.set 27 (.int 0)) → GW X E 7 g_9 93 [(0, .ref a0), (1, .int x1), (2, .int x2), (3, .int x3), (4, .int 1), (5, .int 0)] [])) ∧ (¬ v_5 = 0 → ∃ (fs_10 : List Value) (v_11 : Int32), zGo g 3 a0 = some fs_10 ∧ fs_10[31]? = some (.int v_11) ∧ (¬ ((v_11 >>> (x3 &&& 31)) &&& 1) = 1 → ∃ (fs_12 : List Value), zGo g 3 a0 = some fs_12 ∧ 27 < fs_12.length ∧ ∀ g_13 : zG, g_13 = zSo g 3 a0 (fs_12.set 27 (.int 0)) → GW X E 7 g_13 93 [(0, .ref a0), (1, .int x1), (2, .int x2), (3, .int x3), (4, .int 0), (5, .int 0)] []) ∧ (((v_11 >>> (x3 &&& 31)) &&& 1) = 1 → ∃ (fs_14 : List Value), zGo g 3 a0 = some fs_14 ∧ 27 < fs_14.length ∧ ∀ g_15 : zG, g_15 = zSo g 3 a0 (fs_14.set 27 (.int 0)) → GW X E 7 g_15 93 [(0, .ref a0), (1, .int x1), (2, .int x2), (3, .int x3), (4, .int 1), (5, .int 0)] [])))) : GW X E 7 g 39 [(0, .ref a0), (1, .int x1), (2, .int x2), (3, .int x3)] [] := by
  intro H locs ls hR hS hl
  refine lv_iload_n C.x C.b dX3_finds_39 rfl (lv_at hl 3 rfl) ?_
  refine lv_bipush (v := 10) C.x C.b dX3_finds_40 (by decide) ?_
  obtain ⟨h1, h2⟩ := h
  refine lv_icmp_ge (tgt := 281) C.x C.b dX3_finds_42 (by decide) (fun c => ?_) (fun c => ?_)
  · have h := h1 c; clear h1 h2
    exact z_vret C hQ dX3_finds_281 h H locs ls hR hS hl
  · have h := h2 c; clear h1 h2
    refine lv_aload_n C.x C.b dX3_finds_45 rfl (lv_at hl 0 rfl) ?_
    obtain ⟨fs_1, a_2, q1, q2, h⟩ := h
    refine z_get C hR q1 rfl (ci := 3) rfl in_X3 21 (by decide) q1658 (fun _ h => h) q2 dX3_finds_46 ?_
    refine lv_iload_n C.x C.b dX3_finds_49 rfl (lv_at hl 1 rfl) ?_
    obtain ⟨n_3, f_4, q1, q2, h⟩ := h
    refine z_zald C hR q1 (by decide) q2 dX3_finds_50 ?_
    have h := h _ rfl
    generalize f_4 x1.toNatClampNeg = v_5 at h ⊢
    obtain ⟨h1, h2⟩ := h
    refine lv_if_eq (tgt := 74) C.x C.b dX3_finds_51 (by decide) (fun c => ?_) (fun c => ?_)
    · have h := h1 c; clear h1 h2
      refine lv_iload_n C.x C.b dX3_finds_74 rfl (lv_at hl 3 rfl) ?_
      obtain ⟨h1, h2⟩ := h
      refine lv_if_ne (tgt := 82) C.x C.b dX3_finds_75 (by decide) (fun c => ?_) (fun c => ?_)
      · have h := h1 c; clear h1 h2
        refine lv_iconst (v := 0) C.x C.b dX3_finds_82 (by decide) ?_
        refine lv_istore (lv' := [(4, .int 0), (0, .ref a0), (1, .int x1), (2, .int x2), (3, .int x3)]) C.x C.b dX3_finds_83 hl (by decide) rfl (fun ls hl => ?_)
        refine lv_aload_n C.x C.b dX3_finds_85 rfl (lv_at hl 1 rfl) ?_
        refine lv_iconst (v := 0) C.x C.b dX3_finds_86 (by decide) ?_
        obtain ⟨fs_6, q1, q2, h⟩ := h
        refine z_put C hR hS q1 rfl (ci := 3) rfl in_X3 tyX3 tyX3_ok nmX3 27 (by decide) q1664 (fun _ h => h) rfl ⟨rfl, rfl⟩ q2 dX3_finds_87 (fun H locs hR hS => ?_)
        have h := h _ rfl
        generalize zSo g 3 a0 (fs_6.set 27 (.int 0)) = g_7 at h hR
        refine lv_iconst (v := 0) C.x C.b dX3_finds_90 (by decide) ?_
        refine lv_istore (lv' := [(5, .int 0), (4, .int 0), (0, .ref a0), (1, .int x1), (2, .int x2), (3, .int x3)]) C.x C.b dX3_finds_91 hl (by decide) rfl (fun ls hl => ?_)
        exact h H locs ls hR hS (lv_sub hl [2, 3, 4, 5, 1, 0] rfl)
      · have h := h2 c; clear h1 h2
        refine lv_iconst (v := 1) C.x C.b dX3_finds_78 (by decide) ?_
        refine lv_goto (tgt := 83) C.x C.b dX3_finds_79 (by decide) ?_
        refine lv_istore (lv' := [(4, .int 1), (0, .ref a0), (1, .int x1), (2, .int x2), (3, .int x3)]) C.x C.b dX3_finds_83 hl (by decide) rfl (fun ls hl => ?_)
        refine lv_aload_n C.x C.b dX3_finds_85 rfl (lv_at hl 1 rfl) ?_
        refine lv_iconst (v := 0) C.x C.b dX3_finds_86 (by decide) ?_
        obtain ⟨fs_8, q1, q2, h⟩ := h
        refine z_put C hR hS q1 rfl (ci := 3) rfl in_X3 tyX3 tyX3_ok nmX3 27 (by decide) q1664 (fun _ h => h) rfl ⟨rfl, rfl⟩ q2 dX3_finds_87 (fun H locs hR hS => ?_)
        have h := h _ rfl
        generalize zSo g 3 a0 (fs_8.set 27 (.int 0)) = g_9 at h hR
        refine lv_iconst (v := 0) C.x C.b dX3_finds_90 (by decide) ?_
        refine lv_istore (lv' := [(5, .int 0), (4, .int 1), (0, .ref a0), (1, .int x1), (2, .int x2), (3, .int x3)]) C.x C.b dX3_finds_91 hl (by decide) rfl (fun ls hl => ?_)
        exact h H locs ls hR hS (lv_sub hl [2, 3, 4, 5, 1, 0] rfl)
    · have h := h2 c; clear h1 h2
      refine lv_aload_n C.x C.b dX3_finds_54 rfl (lv_at hl 0 rfl) ?_
      obtain ⟨fs_10, v_11, q1, q2, h⟩ := h
      refine z_get C hR q1 rfl (ci := 3) rfl in_X3 31 (by decide) q1668 (fun _ h => h) q2 dX3_finds_55 ?_
      refine lv_iload_n C.x C.b dX3_finds_58 rfl (lv_at hl 3 rfl) ?_
      refine lv_ishr C.x C.b dX3_finds_59 ?_
      refine lv_iconst (v := 1) C.x C.b dX3_finds_60 (by decide) ?_
      refine lv_iand C.x C.b dX3_finds_61 ?_
      refine lv_iconst (v := 1) C.x C.b dX3_finds_62 (by decide) ?_
      obtain ⟨h1, h2⟩ := h
      refine lv_icmp_ne (tgt := 70) C.x C.b dX3_finds_63 (by decide) (fun c => ?_) (fun c => ?_)
      · have h := h1 c; clear h1 h2
        refine lv_iconst (v := 0) C.x C.b dX3_finds_70 (by decide) ?_
        refine lv_goto (tgt := 83) C.x C.b dX3_finds_71 (by decide) ?_
        refine lv_istore (lv' := [(4, .int 0), (0, .ref a0), (1, .int x1), (2, .int x2), (3, .int x3)]) C.x C.b dX3_finds_83 hl (by decide) rfl (fun ls hl => ?_)
        refine lv_aload_n C.x C.b dX3_finds_85 rfl (lv_at hl 1 rfl) ?_
        refine lv_iconst (v := 0) C.x C.b dX3_finds_86 (by decide) ?_
        obtain ⟨fs_12, q1, q2, h⟩ := h
        refine z_put C hR hS q1 rfl (ci := 3) rfl in_X3 tyX3 tyX3_ok nmX3 27 (by decide) q1664 (fun _ h => h) rfl ⟨rfl, rfl⟩ q2 dX3_finds_87 (fun H locs hR hS => ?_)
        have h := h _ rfl
        generalize zSo g 3 a0 (fs_12.set 27 (.int 0)) = g_13 at h hR
        refine lv_iconst (v := 0) C.x C.b dX3_finds_90 (by decide) ?_
        refine lv_istore (lv' := [(5, .int 0), (4, .int 0), (0, .ref a0), (1, .int x1), (2, .int x2), (3, .int x3)]) C.x C.b dX3_finds_91 hl (by decide) rfl (fun ls hl => ?_)
        exact h H locs ls hR hS (lv_sub hl [2, 3, 4, 5, 1, 0] rfl)
      · have h := h2 c; clear h1 h2
        refine lv_iconst (v := 1) C.x C.b dX3_finds_66 (by decide) ?_
        refine lv_goto (tgt := 83) C.x C.b dX3_finds_67 (by decide) ?_
        refine lv_istore (lv' := [(4, .int 1), (0, .ref a0), (1, .int x1), (2, .int x2), (3, .int x3)]) C.x C.b dX3_finds_83 hl (by decide) rfl (fun ls hl => ?_)
        refine lv_aload_n C.x C.b dX3_finds_85 rfl (lv_at hl 1 rfl) ?_
        refine lv_iconst (v := 0) C.x C.b dX3_finds_86 (by decide) ?_
        obtain ⟨fs_14, q1, q2, h⟩ := h
        refine z_put C hR hS q1 rfl (ci := 3) rfl in_X3 tyX3 tyX3_ok nmX3 27 (by decide) q1664 (fun _ h => h) rfl ⟨rfl, rfl⟩ q2 dX3_finds_87 (fun H locs hR hS => ?_)
        have h := h _ rfl
        generalize zSo g 3 a0 (fs_14.set 27 (.int 0)) = g_15 at h hR
        refine lv_iconst (v := 0) C.x C.b dX3_finds_90 (by decide) ?_
        refine lv_istore (lv' := [(5, .int 0), (4, .int 1), (0, .ref a0), (1, .int x1), (2, .int x2), (3, .int x3)]) C.x C.b dX3_finds_91 hl (by decide) rfl (fun ls hl => ?_)
        exact h H locs ls hR hS (lv_sub hl [2, 3, 4, 5, 1, 0] rfl)
set_option maxHeartbeats 4000000 in
theorem bX3_finds_93 {X : zX} {d : Nat} {E : zM} {K : Option Value → zG → Prop} {KX : String → zG → Prop} (C : zC X (d + 1) E RX3 cX3_finds 7 none "finds") (hQ : zQ X E K KX) (g : zG) (a0 : Nat) (x1 : Int32) (x2 : Int32) (x3 : Int32) (x4 : Int32) (x5 : Int32) (h : ∃ (fs_1 : List Value) (v_2 : Int32), zGo g 3 a0 = some fs_1 ∧ fs_1[29]? = some (.int v_2) ∧ (v_2 ≤ x5 → (x4 = 0 → GW X E 7 g 226 [(0, .ref a0), (1, .int x1), (2, .int x2), (3, .int x3), (5, .int 0)] []) ∧ (¬ x4 = 0 → zIs g 3 a0 ∧ zCal X d yX3_tellsAll wX3_tellsAll [.ref a0, .int x1] g (fun r g_3 => r = none ∧ GW X E 7 g_3 226 [(0, .ref a0), (1, .int x1), (2, .int x2), (3, .int x3), (5, .int 0)] []) KX)) ∧ (¬ v_2 ≤ x5 → (x4 = 0 → (x4 = 0 → GW X E 7 g 226 [(0, .ref a0), (1, .int x1), (2, .int x2), (3, .int x3), (5, .int 0)] []) ∧ (¬ x4 = 0 → zIs g 3 a0 ∧ zCal X d yX3_tellsAll wX3_tellsAll [.ref a0, .int x1] g (fun r g_4 => r = none ∧ GW X E 7 g_4 226 [(0, .ref a0), (1, .int x1), (2, .int x2), (3, .int x3), (5, .int 0)] []) KX)) ∧ (¬ x4 = 0 → ∃ (fs_5 : List Value) (a_6 : Nat), zGo g 3 a0 = some fs_5 ∧ fs_5[21]? = some (.ref a_6) ∧ ∃ (n_7 : Nat) (f_8 : Nat → Int32), zGi g 121 a_6 = some (n_7, f_8) ∧ vp_in x1 n_7 ∧ ∀ v_9 : Int32, v_9 = f_8 x1.toNatClampNeg → (v_9 = 0 → GW X E 7 g 148 [(0, .ref a0), (1, .int x1), (2, .int x2), (3, .int x3), (4, .int x4), (5, .int x5)] []) ∧ (¬ v_9 = 0 → ∃ (fs_10 : List Value) (a_11 : Nat), zGo g 3 a0 = some fs_10 ∧ fs_10[9]? = some (.ref a_11) ∧ ∃ (fs_12 : List Value) (a_13 : Nat), zGo g 3 a0 = some fs_12 ∧ fs_12[30]? = some (.ref a_13) ∧ ∃ (n_14 : Nat) (f_15 : Nat → Int32), zGi g 30 a_13 = some (n_14, f_15) ∧ vp_in x5 n_14 ∧ ∀ v_16 : Int32, v_16 = f_15 x5.toNatClampNeg → ∃ (n_17 : Nat) (f_18 : Nat → Int32), zGi g 9 a_11 = some (n_17, f_18) ∧ vp_in v_16 n_17 ∧ ∀ v_19 : Int32, v_19 = f_18 v_16.toNatClampNeg → (v_19 = x3 → GW X E 7 g 148 [(0, .ref a0), (1, .int x1), (2, .int x2), (3, .int x3), (4, .int x4), (5, .int x5)] []) ∧ (¬ v_19 = x3 → ∃ (fs_20 : List Value) (a_21 : Nat), zGo g 3 a0 = some fs_20 ∧ fs_20[9]? = some (.ref a_21) ∧ ∃ (fs_22 : List Value) (a_23 : Nat), zGo g 3 a0 = some fs_22 ∧ fs_22[30]? = some (.ref a_23) ∧ ∃ (n_24 : Nat) (f_25 : Nat → Int32), zGi g 30 a_23 = some (n_24, f_25) ∧ vp_in x5 n_24 ∧ ∀ v_26 : Int32, v_26 = f_25 x5.toNatClampNeg → ∃ (n_27 : Nat) (f_28 : Nat → Int32), zGi g 9 a_21 = some (n_27, f_28) ∧ vp_in v_26 n_27 ∧ ∀ v_29 : Int32, v_29 = f_28 v_26.toNatClampNeg → (¬ v_29 = (-1) → GW X E 7 g 153 [(0, .ref a0), (1, .int x1), (2, .int x2), (3, .int x3), (4, .int x4), (5, .int x5)] [.int 0]) ∧ (v_29 = (-1) → GW X E 7 g 148 [(0, .ref a0), (1, .int x1), (2, .int x2), (3, .int x3), (4, .int x4), (5, .int x5)] [])))))) : GW X E 7 g 93 [(0, .ref a0), (1, .int x1), (2, .int x2), (3, .int x3), (4, .int x4), (5, .int x5)] [] := by
  intro H locs ls hR hS hl
  refine lv_iload C.x C.b dX3_finds_93 (lv_at hl 5 rfl) ?_
  refine lv_aload_n C.x C.b dX3_finds_95 rfl (lv_at hl 0 rfl) ?_
  obtain ⟨fs_1, v_2, q1, q2, h⟩ := h
  refine z_get C hR q1 rfl (ci := 3) rfl in_X3 29 (by decide) q1666 (fun _ h => h) q2 dX3_finds_96 ?_
  obtain ⟨h1, h2⟩ := h
  refine lv_icmp_ge (tgt := 213) C.x C.b dX3_finds_99 (by decide) (fun c => ?_) (fun c => ?_)
  · have h := h1 c; clear h1 h2
    refine lv_iload C.x C.b dX3_finds_213 (lv_at hl 4 rfl) ?_
    obtain ⟨h1, h2⟩ := h
    refine lv_if_eq (tgt := 223) C.x C.b dX3_finds_215 (by decide) (fun c => ?_) (fun c => ?_)
    · have h := h1 c; clear h1 h2
      refine lv_iconst (v := 0) C.x C.b dX3_finds_223 (by decide) ?_
      refine lv_istore (lv' := [(5, .int 0), (0, .ref a0), (1, .int x1), (2, .int x2), (3, .int x3), (4, .int x4)]) C.x C.b dX3_finds_224 hl (by decide) rfl (fun ls hl => ?_)
      exact h H locs ls hR hS (lv_sub hl [1, 2, 3, 4, 0] rfl)
    · have h := h2 c; clear h1 h2
      refine lv_aload_n C.x C.b dX3_finds_218 rfl (lv_at hl 0 rfl) ?_
      refine lv_iload_n C.x C.b dX3_finds_219 rfl (lv_at hl 1 rfl) ?_
      refine z_callV C hR hS hl (n := 1) (C1 := RX3) (T := TX3) (N := 35) (ci := 3) (y := yX3_tellsAll) (bytes := cX3_tellsAll) (maxL := 4) (rt := none) (As := [.int x1]) (rest := []) h.1 rfl (lw_V q1801 q1803 qs36 q82 q1804) hdV_X3_tellsAll (by decide) rfl rfl (Nat.le_of_ble_eq_true rfl) dX3_finds_220 h.2 (fun r g_3 hk_ => ?_) (fun x g1 h => z_out C hQ h)
      clear h; obtain ⟨rfl, h⟩ := hk_
      show GW X E 7 g_3 223 [(0, .ref a0), (1, .int x1), (2, .int x2), (3, .int x3), (4, .int x4), (5, .int x5)] []
      intro H locs ls hR hS hl
      refine lv_iconst (v := 0) C.x C.b dX3_finds_223 (by decide) ?_
      refine lv_istore (lv' := [(5, .int 0), (0, .ref a0), (1, .int x1), (2, .int x2), (3, .int x3), (4, .int x4)]) C.x C.b dX3_finds_224 hl (by decide) rfl (fun ls hl => ?_)
      exact h H locs ls hR hS (lv_sub hl [1, 2, 3, 4, 0] rfl)
  · have h := h2 c; clear h1 h2
    refine lv_iload C.x C.b dX3_finds_102 (lv_at hl 4 rfl) ?_
    obtain ⟨h1, h2⟩ := h
    refine lv_if_eq (tgt := 213) C.x C.b dX3_finds_104 (by decide) (fun c => ?_) (fun c => ?_)
    · have h := h1 c; clear h1 h2
      refine lv_iload C.x C.b dX3_finds_213 (lv_at hl 4 rfl) ?_
      obtain ⟨h1, h2⟩ := h
      refine lv_if_eq (tgt := 223) C.x C.b dX3_finds_215 (by decide) (fun c => ?_) (fun c => ?_)
      · have h := h1 c; clear h1 h2
        refine lv_iconst (v := 0) C.x C.b dX3_finds_223 (by decide) ?_
        refine lv_istore (lv' := [(5, .int 0), (0, .ref a0), (1, .int x1), (2, .int x2), (3, .int x3), (4, .int x4)]) C.x C.b dX3_finds_224 hl (by decide) rfl (fun ls hl => ?_)
        exact h H locs ls hR hS (lv_sub hl [1, 2, 3, 4, 0] rfl)
      · have h := h2 c; clear h1 h2
        refine lv_aload_n C.x C.b dX3_finds_218 rfl (lv_at hl 0 rfl) ?_
        refine lv_iload_n C.x C.b dX3_finds_219 rfl (lv_at hl 1 rfl) ?_
        refine z_callV C hR hS hl (n := 1) (C1 := RX3) (T := TX3) (N := 35) (ci := 3) (y := yX3_tellsAll) (bytes := cX3_tellsAll) (maxL := 4) (rt := none) (As := [.int x1]) (rest := []) h.1 rfl (lw_V q1801 q1803 qs36 q82 q1804) hdV_X3_tellsAll (by decide) rfl rfl (Nat.le_of_ble_eq_true rfl) dX3_finds_220 h.2 (fun r g_4 hk_ => ?_) (fun x g1 h => z_out C hQ h)
        clear h; obtain ⟨rfl, h⟩ := hk_
        show GW X E 7 g_4 223 [(0, .ref a0), (1, .int x1), (2, .int x2), (3, .int x3), (4, .int x4), (5, .int x5)] []
        intro H locs ls hR hS hl
        refine lv_iconst (v := 0) C.x C.b dX3_finds_223 (by decide) ?_
        refine lv_istore (lv' := [(5, .int 0), (0, .ref a0), (1, .int x1), (2, .int x2), (3, .int x3), (4, .int x4)]) C.x C.b dX3_finds_224 hl (by decide) rfl (fun ls hl => ?_)
        exact h H locs ls hR hS (lv_sub hl [1, 2, 3, 4, 0] rfl)
    · have h := h2 c; clear h1 h2
      refine lv_aload_n C.x C.b dX3_finds_107 rfl (lv_at hl 0 rfl) ?_
      obtain ⟨fs_5, a_6, q1, q2, h⟩ := h
      refine z_get C hR q1 rfl (ci := 3) rfl in_X3 21 (by decide) q1658 (fun _ h => h) q2 dX3_finds_108 ?_
      refine lv_iload_n C.x C.b dX3_finds_111 rfl (lv_at hl 1 rfl) ?_
      obtain ⟨n_7, f_8, q1, q2, h⟩ := h
      refine z_zald C hR q1 (by decide) q2 dX3_finds_112 ?_
      have h := h _ rfl
      generalize f_8 x1.toNatClampNeg = v_9 at h ⊢
      obtain ⟨h1, h2⟩ := h
      refine lv_if_eq (tgt := 148) C.x C.b dX3_finds_113 (by decide) (fun c => ?_) (fun c => ?_)
      · have h := h1 c; clear h1 h2
        exact h H locs ls hR hS (lv_sub hl [0, 1, 2, 3, 4, 5] rfl)
      · have h := h2 c; clear h1 h2
        refine lv_aload_n C.x C.b dX3_finds_116 rfl (lv_at hl 0 rfl) ?_
        obtain ⟨fs_10, a_11, q1, q2, h⟩ := h
        refine z_get C hR q1 rfl (ci := 3) rfl in_X3 9 (by decide) q1646 (fun _ h => h) q2 dX3_finds_117 ?_
        refine lv_aload_n C.x C.b dX3_finds_120 rfl (lv_at hl 0 rfl) ?_
        obtain ⟨fs_12, a_13, q1, q2, h⟩ := h
        refine z_get C hR q1 rfl (ci := 3) rfl in_X3 30 (by decide) q1667 (fun _ h => h) q2 dX3_finds_121 ?_
        refine lv_iload C.x C.b dX3_finds_124 (lv_at hl 5 rfl) ?_
        obtain ⟨n_14, f_15, q1, q2, h⟩ := h
        refine z_iald C hR q1 (by decide) q2 dX3_finds_126 ?_
        have h := h _ rfl
        generalize f_15 x5.toNatClampNeg = v_16 at h ⊢
        obtain ⟨n_17, f_18, q1, q2, h⟩ := h
        refine z_iald C hR q1 (by decide) q2 dX3_finds_127 ?_
        have h := h _ rfl
        generalize f_18 v_16.toNatClampNeg = v_19 at h ⊢
        refine lv_iload_n C.x C.b dX3_finds_128 rfl (lv_at hl 3 rfl) ?_
        obtain ⟨h1, h2⟩ := h
        refine lv_icmp_eq (tgt := 148) C.x C.b dX3_finds_129 (by decide) (fun c => ?_) (fun c => ?_)
        · have h := h1 c; clear h1 h2
          exact h H locs ls hR hS (lv_sub hl [0, 1, 2, 3, 4, 5] rfl)
        · have h := h2 c; clear h1 h2
          refine lv_aload_n C.x C.b dX3_finds_132 rfl (lv_at hl 0 rfl) ?_
          obtain ⟨fs_20, a_21, q1, q2, h⟩ := h
          refine z_get C hR q1 rfl (ci := 3) rfl in_X3 9 (by decide) q1646 (fun _ h => h) q2 dX3_finds_133 ?_
          refine lv_aload_n C.x C.b dX3_finds_136 rfl (lv_at hl 0 rfl) ?_
          obtain ⟨fs_22, a_23, q1, q2, h⟩ := h
          refine z_get C hR q1 rfl (ci := 3) rfl in_X3 30 (by decide) q1667 (fun _ h => h) q2 dX3_finds_137 ?_
          refine lv_iload C.x C.b dX3_finds_140 (lv_at hl 5 rfl) ?_
          obtain ⟨n_24, f_25, q1, q2, h⟩ := h
          refine z_iald C hR q1 (by decide) q2 dX3_finds_142 ?_
          have h := h _ rfl
          generalize f_25 x5.toNatClampNeg = v_26 at h ⊢
          obtain ⟨n_27, f_28, q1, q2, h⟩ := h
          refine z_iald C hR q1 (by decide) q2 dX3_finds_143 ?_
          have h := h _ rfl
          generalize f_28 v_26.toNatClampNeg = v_29 at h ⊢
          refine lv_iconst (v := (-1)) C.x C.b dX3_finds_144 (by decide) ?_
          obtain ⟨h1, h2⟩ := h
          refine lv_icmp_ne (tgt := 152) C.x C.b dX3_finds_145 (by decide) (fun c => ?_) (fun c => ?_)
          · have h := h1 c; clear h1 h2
            refine lv_iconst (v := 0) C.x C.b dX3_finds_152 (by decide) ?_
            exact h H locs ls hR hS (lv_sub hl [0, 1, 2, 3, 4, 5] rfl)
          · have h := h2 c; clear h1 h2
            exact h H locs ls hR hS (lv_sub hl [0, 1, 2, 3, 4, 5] rfl)
set_option maxHeartbeats 4000000 in
theorem bX3_finds_148 {X : zX} {d : Nat} {E : zM} {K : Option Value → zG → Prop} {KX : String → zG → Prop} (C : zC X (d + 1) E RX3 cX3_finds 7 none "finds") (hQ : zQ X E K KX) (g : zG) (a0 : Nat) (x1 : Int32) (x2 : Int32) (x3 : Int32) (x4 : Int32) (x5 : Int32) (h : GW X E 7 g 153 [(0, .ref a0), (1, .int x1), (2, .int x2), (3, .int x3), (4, .int x4), (5, .int x5)] [.int 1]) : GW X E 7 g 148 [(0, .ref a0), (1, .int x1), (2, .int x2), (3, .int x3), (4, .int x4), (5, .int x5)] [] := by
  intro H locs ls hR hS hl
  refine lv_iconst (v := 1) C.x C.b dX3_finds_148 (by decide) ?_
  refine lv_goto (tgt := 153) C.x C.b dX3_finds_149 (by decide) ?_
  exact h H locs ls hR hS (lv_sub hl [0, 1, 2, 3, 4, 5] rfl)
set_option maxHeartbeats 4000000 in
theorem bX3_finds_153 {X : zX} {d : Nat} {E : zM} {K : Option Value → zG → Prop} {KX : String → zG → Prop} (C : zC X (d + 1) E RX3 cX3_finds 7 none "finds") (hQ : zQ X E K KX) (g : zG) (a0 : Nat) (x1 : Int32) (x2 : Int32) (x3 : Int32) (x4 : Int32) (x5 : Int32) (t0 : Int32) (h : ∃ (fs_1 : List Value) (a_2 : Nat), zGo g 3 a0 = some fs_1 ∧ fs_1[28]? = some (.ref a_2) ∧ ∃ (fs_3 : List Value) (v_4 : Int32), zGo g 3 a0 = some fs_3 ∧ fs_3[27]? = some (.int v_4) ∧ (t0 = 0 → ∃ (fs_5 : List Value) (a_6 : Nat), zGo g 3 a0 = some fs_5 ∧ fs_5[28]? = some (.ref a_6) ∧ ∃ (fs_7 : List Value) (v_8 : Int32), zGo g 3 a0 = some fs_7 ∧ fs_7[27]? = some (.int v_8) ∧ ∃ (n_9 : Nat) (f_10 : Nat → Int32), zGi g 28 a_6 = some (n_9, f_10) ∧ vp_in v_8 n_9 ∧ ∀ v_11 : Int32, v_11 = f_10 v_8.toNatClampNeg → ∃ (n_12 : Nat) (f_13 : Nat → Int32), zGi g 28 a_2 = some (n_12, f_13) ∧ vp_in v_4 n_12 ∧ ∀ g_14 : zG, g_14 = zSi g 28 a_2 n_12 (upd f_13 v_4.toNatClampNeg v_11) → ∃ (fs_15 : List Value) (v_16 : Int32), zGo g_14 3 a0 = some fs_15 ∧ fs_15[27]? = some (.int v_16) ∧ (t0 = 0 → ∃ (fs_17 : List Value), zGo g_14 3 a0 = some fs_17 ∧ 27 < fs_17.length ∧ ∀ g_18 : zG, g_18 = zSo g_14 3 a0 (fs_17.set 27 (.int (v_16 + 0))) → GW X E 7 g_18 93 [(0, .ref a0), (1, .int x1), (2, .int x2), (3, .int x3), (4, .int x4), (5, .int (x5 + 1))] []) ∧ (¬ t0 = 0 → ∃ (fs_19 : List Value), zGo g_14 3 a0 = some fs_19 ∧ 27 < fs_19.length ∧ ∀ g_20 : zG, g_20 = zSo g_14 3 a0 (fs_19.set 27 (.int (v_16 + 1))) → GW X E 7 g_20 93 [(0, .ref a0), (1, .int x1), (2, .int x2), (3, .int x3), (4, .int x4), (5, .int (x5 + 1))] [])) ∧ (¬ t0 = 0 → ∃ (fs_21 : List Value) (a_22 : Nat), zGo g 3 a0 = some fs_21 ∧ fs_21[30]? = some (.ref a_22) ∧ ∃ (n_23 : Nat) (f_24 : Nat → Int32), zGi g 30 a_22 = some (n_23, f_24) ∧ vp_in x5 n_23 ∧ ∀ v_25 : Int32, v_25 = f_24 x5.toNatClampNeg → ∃ (n_26 : Nat) (f_27 : Nat → Int32), zGi g 28 a_2 = some (n_26, f_27) ∧ vp_in v_4 n_26 ∧ ∀ g_28 : zG, g_28 = zSi g 28 a_2 n_26 (upd f_27 v_4.toNatClampNeg v_25) → ∃ (fs_29 : List Value) (v_30 : Int32), zGo g_28 3 a0 = some fs_29 ∧ fs_29[27]? = some (.int v_30) ∧ (t0 = 0 → ∃ (fs_31 : List Value), zGo g_28 3 a0 = some fs_31 ∧ 27 < fs_31.length ∧ ∀ g_32 : zG, g_32 = zSo g_28 3 a0 (fs_31.set 27 (.int (v_30 + 0))) → GW X E 7 g_32 93 [(0, .ref a0), (1, .int x1), (2, .int x2), (3, .int x3), (4, .int x4), (5, .int (x5 + 1))] []) ∧ (¬ t0 = 0 → ∃ (fs_33 : List Value), zGo g_28 3 a0 = some fs_33 ∧ 27 < fs_33.length ∧ ∀ g_34 : zG, g_34 = zSo g_28 3 a0 (fs_33.set 27 (.int (v_30 + 1))) → GW X E 7 g_34 93 [(0, .ref a0), (1, .int x1), (2, .int x2), (3, .int x3), (4, .int x4), (5, .int (x5 + 1))] []))) : GW X E 7 g 153 [(0, .ref a0), (1, .int x1), (2, .int x2), (3, .int x3), (4, .int x4), (5, .int x5)] [.int t0] := by
  intro H locs ls hR hS hl
  refine lv_istore (lv' := [(6, .int t0), (0, .ref a0), (1, .int x1), (2, .int x2), (3, .int x3), (4, .int x4), (5, .int x5)]) C.x C.b dX3_finds_153 hl (by decide) rfl (fun ls hl => ?_)
  refine lv_aload_n C.x C.b dX3_finds_155 rfl (lv_at hl 1 rfl) ?_
  obtain ⟨fs_1, a_2, q1, q2, h⟩ := h
  refine z_get C hR q1 rfl (ci := 3) rfl in_X3 28 (by decide) q1665 (fun _ h => h) q2 dX3_finds_156 ?_
  refine lv_aload_n C.x C.b dX3_finds_159 rfl (lv_at hl 1 rfl) ?_
  obtain ⟨fs_3, v_4, q1, q2, h⟩ := h
  refine z_get C hR q1 rfl (ci := 3) rfl in_X3 27 (by decide) q1664 (fun _ h => h) q2 dX3_finds_160 ?_
  refine lv_iload C.x C.b dX3_finds_163 (lv_at hl 0 rfl) ?_
  obtain ⟨h1, h2⟩ := h
  refine lv_if_eq (tgt := 178) C.x C.b dX3_finds_165 (by decide) (fun c => ?_) (fun c => ?_)
  · have h := h1 c; clear h1 h2
    refine lv_aload_n C.x C.b dX3_finds_178 rfl (lv_at hl 1 rfl) ?_
    obtain ⟨fs_5, a_6, q1, q2, h⟩ := h
    refine z_get C hR q1 rfl (ci := 3) rfl in_X3 28 (by decide) q1665 (fun _ h => h) q2 dX3_finds_179 ?_
    refine lv_aload_n C.x C.b dX3_finds_182 rfl (lv_at hl 1 rfl) ?_
    obtain ⟨fs_7, v_8, q1, q2, h⟩ := h
    refine z_get C hR q1 rfl (ci := 3) rfl in_X3 27 (by decide) q1664 (fun _ h => h) q2 dX3_finds_183 ?_
    obtain ⟨n_9, f_10, q1, q2, h⟩ := h
    refine z_iald C hR q1 (by decide) q2 dX3_finds_186 ?_
    have h := h _ rfl
    generalize f_10 v_8.toNatClampNeg = v_11 at h ⊢
    obtain ⟨n_12, f_13, q1, q2, h⟩ := h
    refine z_iast C hR hS q1 (by decide) q2 dX3_finds_187 (fun H locs hR hS => ?_)
    have h := h _ rfl
    generalize zSi g 28 a_2 n_12 (upd f_13 v_4.toNatClampNeg v_11) = g_14 at h hR
    refine lv_aload_n C.x C.b dX3_finds_188 rfl (lv_at hl 1 rfl) ?_
    refine lv_dup C.x C.b dX3_finds_189 rfl ?_
    obtain ⟨fs_15, v_16, q1, q2, h⟩ := h
    refine z_get C hR q1 rfl (ci := 3) rfl in_X3 27 (by decide) q1664 (fun _ h => h) q2 dX3_finds_190 ?_
    refine lv_iload C.x C.b dX3_finds_193 (lv_at hl 0 rfl) ?_
    obtain ⟨h1, h2⟩ := h
    refine lv_if_eq (tgt := 202) C.x C.b dX3_finds_195 (by decide) (fun c => ?_) (fun c => ?_)
    · have h := h1 c; clear h1 h2
      refine lv_iconst (v := 0) C.x C.b dX3_finds_202 (by decide) ?_
      refine lv_iadd C.x C.b dX3_finds_203 ?_
      obtain ⟨fs_17, q1, q2, h⟩ := h
      refine z_put C hR hS q1 rfl (ci := 3) rfl in_X3 tyX3 tyX3_ok nmX3 27 (by decide) q1664 (fun _ h => h) rfl ⟨rfl, rfl⟩ q2 dX3_finds_204 (fun H locs hR hS => ?_)
      have h := h _ rfl
      generalize zSo g_14 3 a0 (fs_17.set 27 (.int (v_16 + 0))) = g_18 at h hR
      refine lv_iinc (v := x5 + 1) (lv' := [(5, .int (x5 + 1)), (6, .int t0), (0, .ref a0), (1, .int x1), (2, .int x2), (3, .int x3), (4, .int x4)]) C.x C.b dX3_finds_207 hl (k := 6) rfl rfl (by decide) rfl (fun ls hl => ?_)
      refine lv_goto (tgt := 93) C.x C.b dX3_finds_210 (by decide) ?_
      exact h H locs ls hR hS (lv_sub hl [2, 3, 4, 5, 6, 0] rfl)
    · have h := h2 c; clear h1 h2
      refine lv_iconst (v := 1) C.x C.b dX3_finds_198 (by decide) ?_
      refine lv_goto (tgt := 203) C.x C.b dX3_finds_199 (by decide) ?_
      refine lv_iadd C.x C.b dX3_finds_203 ?_
      obtain ⟨fs_19, q1, q2, h⟩ := h
      refine z_put C hR hS q1 rfl (ci := 3) rfl in_X3 tyX3 tyX3_ok nmX3 27 (by decide) q1664 (fun _ h => h) rfl ⟨rfl, rfl⟩ q2 dX3_finds_204 (fun H locs hR hS => ?_)
      have h := h _ rfl
      generalize zSo g_14 3 a0 (fs_19.set 27 (.int (v_16 + 1))) = g_20 at h hR
      refine lv_iinc (v := x5 + 1) (lv' := [(5, .int (x5 + 1)), (6, .int t0), (0, .ref a0), (1, .int x1), (2, .int x2), (3, .int x3), (4, .int x4)]) C.x C.b dX3_finds_207 hl (k := 6) rfl rfl (by decide) rfl (fun ls hl => ?_)
      refine lv_goto (tgt := 93) C.x C.b dX3_finds_210 (by decide) ?_
      exact h H locs ls hR hS (lv_sub hl [2, 3, 4, 5, 6, 0] rfl)
  · have h := h2 c; clear h1 h2
    refine lv_aload_n C.x C.b dX3_finds_168 rfl (lv_at hl 1 rfl) ?_
    obtain ⟨fs_21, a_22, q1, q2, h⟩ := h
    refine z_get C hR q1 rfl (ci := 3) rfl in_X3 30 (by decide) q1667 (fun _ h => h) q2 dX3_finds_169 ?_
    refine lv_iload C.x C.b dX3_finds_172 (lv_at hl 6 rfl) ?_
    obtain ⟨n_23, f_24, q1, q2, h⟩ := h
    refine z_iald C hR q1 (by decide) q2 dX3_finds_174 ?_
    have h := h _ rfl
    generalize f_24 x5.toNatClampNeg = v_25 at h ⊢
    refine lv_goto (tgt := 187) C.x C.b dX3_finds_175 (by decide) ?_
    obtain ⟨n_26, f_27, q1, q2, h⟩ := h
    refine z_iast C hR hS q1 (by decide) q2 dX3_finds_187 (fun H locs hR hS => ?_)
    have h := h _ rfl
    generalize zSi g 28 a_2 n_26 (upd f_27 v_4.toNatClampNeg v_25) = g_28 at h hR
    refine lv_aload_n C.x C.b dX3_finds_188 rfl (lv_at hl 1 rfl) ?_
    refine lv_dup C.x C.b dX3_finds_189 rfl ?_
    obtain ⟨fs_29, v_30, q1, q2, h⟩ := h
    refine z_get C hR q1 rfl (ci := 3) rfl in_X3 27 (by decide) q1664 (fun _ h => h) q2 dX3_finds_190 ?_
    refine lv_iload C.x C.b dX3_finds_193 (lv_at hl 0 rfl) ?_
    obtain ⟨h1, h2⟩ := h
    refine lv_if_eq (tgt := 202) C.x C.b dX3_finds_195 (by decide) (fun c => ?_) (fun c => ?_)
    · have h := h1 c; clear h1 h2
      refine lv_iconst (v := 0) C.x C.b dX3_finds_202 (by decide) ?_
      refine lv_iadd C.x C.b dX3_finds_203 ?_
      obtain ⟨fs_31, q1, q2, h⟩ := h
      refine z_put C hR hS q1 rfl (ci := 3) rfl in_X3 tyX3 tyX3_ok nmX3 27 (by decide) q1664 (fun _ h => h) rfl ⟨rfl, rfl⟩ q2 dX3_finds_204 (fun H locs hR hS => ?_)
      have h := h _ rfl
      generalize zSo g_28 3 a0 (fs_31.set 27 (.int (v_30 + 0))) = g_32 at h hR
      refine lv_iinc (v := x5 + 1) (lv' := [(5, .int (x5 + 1)), (6, .int t0), (0, .ref a0), (1, .int x1), (2, .int x2), (3, .int x3), (4, .int x4)]) C.x C.b dX3_finds_207 hl (k := 6) rfl rfl (by decide) rfl (fun ls hl => ?_)
      refine lv_goto (tgt := 93) C.x C.b dX3_finds_210 (by decide) ?_
      exact h H locs ls hR hS (lv_sub hl [2, 3, 4, 5, 6, 0] rfl)
    · have h := h2 c; clear h1 h2
      refine lv_iconst (v := 1) C.x C.b dX3_finds_198 (by decide) ?_
      refine lv_goto (tgt := 203) C.x C.b dX3_finds_199 (by decide) ?_
      refine lv_iadd C.x C.b dX3_finds_203 ?_
      obtain ⟨fs_33, q1, q2, h⟩ := h
      refine z_put C hR hS q1 rfl (ci := 3) rfl in_X3 tyX3 tyX3_ok nmX3 27 (by decide) q1664 (fun _ h => h) rfl ⟨rfl, rfl⟩ q2 dX3_finds_204 (fun H locs hR hS => ?_)
      have h := h _ rfl
      generalize zSo g_28 3 a0 (fs_33.set 27 (.int (v_30 + 1))) = g_34 at h hR
      refine lv_iinc (v := x5 + 1) (lv' := [(5, .int (x5 + 1)), (6, .int t0), (0, .ref a0), (1, .int x1), (2, .int x2), (3, .int x3), (4, .int x4)]) C.x C.b dX3_finds_207 hl (k := 6) rfl rfl (by decide) rfl (fun ls hl => ?_)
      refine lv_goto (tgt := 93) C.x C.b dX3_finds_210 (by decide) ?_
      exact h H locs ls hR hS (lv_sub hl [2, 3, 4, 5, 6, 0] rfl)
set_option maxHeartbeats 4000000 in
theorem bX3_finds_226 {X : zX} {d : Nat} {E : zM} {K : Option Value → zG → Prop} {KX : String → zG → Prop} (C : zC X (d + 1) E RX3 cX3_finds 7 none "finds") (hQ : zQ X E K KX) (g : zG) (a0 : Nat) (x1 : Int32) (x2 : Int32) (x3 : Int32) (x5 : Int32) (h : ∃ (fs_1 : List Value) (v_2 : Int32), zGo g 3 a0 = some fs_1 ∧ fs_1[27]? = some (.int v_2) ∧ (v_2 ≤ x5 → GW X E 7 g 39 [(0, .ref a0), (1, .int x1), (2, .int x2), (3, .int (x3 + 1))] []) ∧ (¬ v_2 ≤ x5 → ∃ (fs_3 : List Value) (a_4 : Nat), zGo g 3 a0 = some fs_3 ∧ fs_3[33]? = some (.ref a_4) ∧ ∃ (fs_5 : List Value) (a_6 : Nat), zGo g 3 a0 = some fs_5 ∧ fs_5[28]? = some (.ref a_6) ∧ ∃ (n_7 : Nat) (f_8 : Nat → Int32), zGi g 28 a_6 = some (n_7, f_8) ∧ vp_in x5 n_7 ∧ ∀ v_9 : Int32, v_9 = f_8 x5.toNatClampNeg → ∃ (fs_10 : List Value) (a_11 : Nat), zGo g 3 a0 = some fs_10 ∧ fs_10[33]? = some (.ref a_11) ∧ ∃ (fs_12 : List Value) (a_13 : Nat), zGo g 3 a0 = some fs_12 ∧ fs_12[28]? = some (.ref a_13) ∧ ∃ (n_14 : Nat) (f_15 : Nat → Int32), zGi g 28 a_13 = some (n_14, f_15) ∧ vp_in x5 n_14 ∧ ∀ v_16 : Int32, v_16 = f_15 x5.toNatClampNeg → ∃ (n_17 : Nat) (f_18 : Nat → Int32), zGi g 33 a_11 = some (n_17, f_18) ∧ vp_in v_16 n_17 ∧ ∀ v_19 : Int32, v_19 = f_18 v_16.toNatClampNeg → zIs g 3 a0 ∧ zCal X d yX3_at wX3_at [.ref a0, .int x2, .int x5] g (fun r g_20 => ∃ v_21 : Int32, r = some (.int v_21) ∧ zCal X d yX3_and wX3_and [.int v_19, .int v_21] g_20 (fun r g_22 => ∃ v_23 : Int32, r = some (.int v_23) ∧ ∃ (n_24 : Nat) (f_25 : Nat → Int32), zGi g_22 33 a_4 = some (n_24, f_25) ∧ vp_in v_9 n_24 ∧ ∀ g_26 : zG, g_26 = zSi g_22 33 a_4 n_24 (upd f_25 v_9.toNatClampNeg v_23) → GW X E 7 g_26 226 [(0, .ref a0), (1, .int x1), (2, .int x2), (3, .int x3), (5, .int (x5 + 1))] []) KX) KX)) : GW X E 7 g 226 [(0, .ref a0), (1, .int x1), (2, .int x2), (3, .int x3), (5, .int x5)] [] := by
  intro H locs ls hR hS hl
  refine lv_iload C.x C.b dX3_finds_226 (lv_at hl 4 rfl) ?_
  refine lv_aload_n C.x C.b dX3_finds_228 rfl (lv_at hl 0 rfl) ?_
  obtain ⟨fs_1, v_2, q1, q2, h⟩ := h
  refine z_get C hR q1 rfl (ci := 3) rfl in_X3 27 (by decide) q1664 (fun _ h => h) q2 dX3_finds_229 ?_
  obtain ⟨h1, h2⟩ := h
  refine lv_icmp_ge (tgt := 275) C.x C.b dX3_finds_232 (by decide) (fun c => ?_) (fun c => ?_)
  · have h := h1 c; clear h1 h2
    refine lv_iinc (v := x3 + 1) (lv' := [(3, .int (x3 + 1)), (0, .ref a0), (1, .int x1), (2, .int x2), (5, .int x5)]) C.x C.b dX3_finds_275 hl (k := 3) rfl rfl (by decide) rfl (fun ls hl => ?_)
    refine lv_goto (tgt := 39) C.x C.b dX3_finds_278 (by decide) ?_
    exact h H locs ls hR hS (lv_sub hl [1, 2, 3, 0] rfl)
  · have h := h2 c; clear h1 h2
    refine lv_aload_n C.x C.b dX3_finds_235 rfl (lv_at hl 0 rfl) ?_
    obtain ⟨fs_3, a_4, q1, q2, h⟩ := h
    refine z_get C hR q1 rfl (ci := 3) rfl in_X3 33 (by decide) q1670 (fun _ h => h) q2 dX3_finds_236 ?_
    refine lv_aload_n C.x C.b dX3_finds_239 rfl (lv_at hl 0 rfl) ?_
    obtain ⟨fs_5, a_6, q1, q2, h⟩ := h
    refine z_get C hR q1 rfl (ci := 3) rfl in_X3 28 (by decide) q1665 (fun _ h => h) q2 dX3_finds_240 ?_
    refine lv_iload C.x C.b dX3_finds_243 (lv_at hl 4 rfl) ?_
    obtain ⟨n_7, f_8, q1, q2, h⟩ := h
    refine z_iald C hR q1 (by decide) q2 dX3_finds_245 ?_
    have h := h _ rfl
    generalize f_8 x5.toNatClampNeg = v_9 at h ⊢
    refine lv_aload_n C.x C.b dX3_finds_246 rfl (lv_at hl 0 rfl) ?_
    obtain ⟨fs_10, a_11, q1, q2, h⟩ := h
    refine z_get C hR q1 rfl (ci := 3) rfl in_X3 33 (by decide) q1670 (fun _ h => h) q2 dX3_finds_247 ?_
    refine lv_aload_n C.x C.b dX3_finds_250 rfl (lv_at hl 0 rfl) ?_
    obtain ⟨fs_12, a_13, q1, q2, h⟩ := h
    refine z_get C hR q1 rfl (ci := 3) rfl in_X3 28 (by decide) q1665 (fun _ h => h) q2 dX3_finds_251 ?_
    refine lv_iload C.x C.b dX3_finds_254 (lv_at hl 4 rfl) ?_
    obtain ⟨n_14, f_15, q1, q2, h⟩ := h
    refine z_iald C hR q1 (by decide) q2 dX3_finds_256 ?_
    have h := h _ rfl
    generalize f_15 x5.toNatClampNeg = v_16 at h ⊢
    obtain ⟨n_17, f_18, q1, q2, h⟩ := h
    refine z_iald C hR q1 (by decide) q2 dX3_finds_257 ?_
    have h := h _ rfl
    generalize f_18 v_16.toNatClampNeg = v_19 at h ⊢
    refine lv_aload_n C.x C.b dX3_finds_258 rfl (lv_at hl 0 rfl) ?_
    refine lv_iload_n C.x C.b dX3_finds_259 rfl (lv_at hl 2 rfl) ?_
    refine lv_iload C.x C.b dX3_finds_260 (lv_at hl 4 rfl) ?_
    refine z_callV C hR hS hl (n := 2) (C1 := RX3) (T := TX3) (N := 35) (ci := 3) (y := yX3_at) (bytes := cX3_at) (maxL := 3) (rt := (some .int)) (As := [.int x2, .int x5]) (rest := [.int v_19, .int v_9, .ref a_4]) h.1 rfl (lw_V q1816 q1818 qs39 q82 q1819) hdV_X3_at (by decide) rfl rfl (Nat.le_of_ble_eq_true rfl) dX3_finds_262 h.2 (fun r g_20 hk_ => ?_) (fun x g1 h => z_out C hQ h)
    clear h; obtain ⟨v_21, rfl, h⟩ := hk_
    show GW X E 7 g_20 265 [(0, .ref a0), (1, .int x1), (2, .int x2), (3, .int x3), (5, .int x5)] [.int v_21, .int v_19, .int v_9, .ref a_4]
    intro H locs ls hR hS hl
    refine z_callS C hR hS hl (n := 2) (y := yX3_and) (bytes := cX3_and) (maxL := 2) (rt := (some .int)) (As := [.int v_19, .int v_21]) (rest := [.int v_9, .ref a_4]) (lw_S q1823 q1824 q82 q1825) hdS_X3_and (by decide) rfl rfl (Nat.le_of_ble_eq_true rfl) dX3_finds_265 h (fun r g_22 hk_ => ?_) (fun x g1 h => z_out C hQ h)
    clear h; obtain ⟨v_23, rfl, h⟩ := hk_
    show GW X E 7 g_22 268 [(0, .ref a0), (1, .int x1), (2, .int x2), (3, .int x3), (5, .int x5)] [.int v_23, .int v_9, .ref a_4]
    intro H locs ls hR hS hl
    obtain ⟨n_24, f_25, q1, q2, h⟩ := h
    refine z_iast C hR hS q1 (by decide) q2 dX3_finds_268 (fun H locs hR hS => ?_)
    have h := h _ rfl
    generalize zSi g_22 33 a_4 n_24 (upd f_25 v_9.toNatClampNeg v_23) = g_26 at h hR
    refine lv_iinc (v := x5 + 1) (lv' := [(5, .int (x5 + 1)), (0, .ref a0), (1, .int x1), (2, .int x2), (3, .int x3)]) C.x C.b dX3_finds_269 hl (k := 4) rfl rfl (by decide) rfl (fun ls hl => ?_)
    refine lv_goto (tgt := 226) C.x C.b dX3_finds_272 (by decide) ?_
    exact h H locs ls hR hS (lv_sub hl [1, 2, 3, 4, 0] rfl)
set_option maxHeartbeats 4000000 in
theorem mX3_finds {X : zX} {d : Nat} {g : zG} {K : Option Value → zG → Prop} {KX : String → zG → Prop} (hok : zOk X) (a0 : Nat) (x1 : Int32) (h : ∀ E : zM, zC X (d + 1) E RX3 cX3_finds 7 none "finds" → zQ X E K KX → ∃ (fs_1 : List Value) (a_2 : Nat), zGo g 3 a0 = some fs_1 ∧ fs_1[23]? = some (.ref a_2) ∧ ∃ (n_3 : Nat) (f_4 : Nat → Int32), zGi g 23 a_2 = some (n_3, f_4) ∧ vp_in x1 n_3 ∧ ∀ v_5 : Int32, v_5 = f_4 x1.toNatClampNeg → GW X E 7 g 11 [(0, .ref a0), (1, .int x1), (2, .int (v_5 - 1)), (3, .int 0)] []) : zCal X (d + 1) yX3_finds wX3_finds [.ref a0, .int x1] g K KX := by
  refine z_enter hok pn_X3 (Nat.le_of_ble_eq_true rfl) (fun E C hQ => ?_)
  have C : zC X (d + 1) E RX3 cX3_finds 7 none "finds" := C
  have h := h E C hQ
  show GW X E 7 g 0 [(0, .ref a0), (1, .int x1)] []
  intro H locs ls hR hS hl
  refine lv_aload_n C.x C.b dX3_finds_0 rfl (lv_at hl 0 rfl) ?_
  obtain ⟨fs_1, a_2, q1, q2, h⟩ := h
  refine z_get C hR q1 rfl (ci := 3) rfl in_X3 23 (by decide) q1660 (fun _ h => h) q2 dX3_finds_1 ?_
  refine lv_iload_n C.x C.b dX3_finds_4 rfl (lv_at hl 1 rfl) ?_
  obtain ⟨n_3, f_4, q1, q2, h⟩ := h
  refine z_iald C hR q1 (by decide) q2 dX3_finds_5 ?_
  have h := h _ rfl
  generalize f_4 x1.toNatClampNeg = v_5 at h ⊢
  refine lv_iconst (v := 1) C.x C.b dX3_finds_6 (by decide) ?_
  refine lv_isub C.x C.b dX3_finds_7 ?_
  refine lv_istore_n (lv' := [(2, .int (v_5 - 1)), (0, .ref a0), (1, .int x1)]) C.x C.b dX3_finds_8 rfl hl (by decide) rfl (fun ls hl => ?_)
  refine lv_iconst (v := 0) C.x C.b dX3_finds_9 (by decide) ?_
  refine lv_istore_n (lv' := [(3, .int 0), (2, .int (v_5 - 1)), (0, .ref a0), (1, .int x1)]) C.x C.b dX3_finds_10 rfl hl (by decide) rfl (fun ls hl => ?_)
  exact h H locs ls hR hS (lv_sub hl [2, 3, 1, 0] rfl)
set_option maxHeartbeats 4000000 in
theorem bX3_idsOf_4 {X : zX} {d : Nat} {E : zM} {K : Option Value → zG → Prop} {KX : String → zG → Prop} (C : zC X d E RX3 cX3_idsOf 3 (some .int) "idsOf") (hQ : zQ X E K KX) (g : zG) (a0 : Nat) (x1 : Int32) (x2 : Int32) (h : ∃ (fs_1 : List Value) (v_2 : Int32), zGo g 3 a0 = some fs_1 ∧ fs_1[3]? = some (.int v_2) ∧ (v_2 ≤ x2 → K (some (.int x1)) g) ∧ (¬ v_2 ≤ x2 → ∃ (fs_3 : List Value) (a_4 : Nat), zGo g 3 a0 = some fs_3 ∧ fs_3[9]? = some (.ref a_4) ∧ ∃ (n_5 : Nat) (f_6 : Nat → Int32), zGi g 9 a_4 = some (n_5, f_6) ∧ vp_in x2 n_5 ∧ ∀ v_7 : Int32, v_7 = f_6 x2.toNatClampNeg → (¬ v_7 = (-1) → ∃ (fs_8 : List Value) (a_9 : Nat), zGo g 3 a0 = some fs_8 ∧ fs_8[9]? = some (.ref a_9) ∧ ∃ (n_10 : Nat) (f_11 : Nat → Int32), zGi g 9 a_9 = some (n_10, f_11) ∧ vp_in x2 n_10 ∧ ∀ v_12 : Int32, v_12 = f_11 x2.toNatClampNeg → GW X E 3 g 4 [(0, .ref a0), (1, .int (x1 ||| (1 <<< (v_12 &&& 31)))), (2, .int (x2 + 1))] []) ∧ (v_7 = (-1) → GW X E 3 g 4 [(0, .ref a0), (1, .int (x1 ||| 0)), (2, .int (x2 + 1))] []))) : GW X E 3 g 4 [(0, .ref a0), (1, .int x1), (2, .int x2)] [] := by
  intro H locs ls hR hS hl
  refine lv_iload_n C.x C.b dX3_idsOf_4 rfl (lv_at hl 2 rfl) ?_
  refine lv_aload_n C.x C.b dX3_idsOf_5 rfl (lv_at hl 0 rfl) ?_
  obtain ⟨fs_1, v_2, q1, q2, h⟩ := h
  refine z_get C hR q1 rfl (ci := 3) rfl in_X3 3 (by decide) q1640 (fun _ h => h) q2 dX3_idsOf_6 ?_
  obtain ⟨h1, h2⟩ := h
  refine lv_icmp_ge (tgt := 43) C.x C.b dX3_idsOf_9 (by decide) (fun c => ?_) (fun c => ?_)
  · have h := h1 c; clear h1 h2
    refine lv_iload_n C.x C.b dX3_idsOf_43 rfl (lv_at hl 1 rfl) ?_
    exact z_iret C hQ dX3_idsOf_44 h H locs ls hR hS hl
  · have h := h2 c; clear h1 h2
    refine lv_iload_n C.x C.b dX3_idsOf_12 rfl (lv_at hl 1 rfl) ?_
    refine lv_aload_n C.x C.b dX3_idsOf_13 rfl (lv_at hl 0 rfl) ?_
    obtain ⟨fs_3, a_4, q1, q2, h⟩ := h
    refine z_get C hR q1 rfl (ci := 3) rfl in_X3 9 (by decide) q1646 (fun _ h => h) q2 dX3_idsOf_14 ?_
    refine lv_iload_n C.x C.b dX3_idsOf_17 rfl (lv_at hl 2 rfl) ?_
    obtain ⟨n_5, f_6, q1, q2, h⟩ := h
    refine z_iald C hR q1 (by decide) q2 dX3_idsOf_18 ?_
    have h := h _ rfl
    generalize f_6 x2.toNatClampNeg = v_7 at h ⊢
    refine lv_iconst (v := (-1)) C.x C.b dX3_idsOf_19 (by decide) ?_
    obtain ⟨h1, h2⟩ := h
    refine lv_icmp_ne (tgt := 27) C.x C.b dX3_idsOf_20 (by decide) (fun c => ?_) (fun c => ?_)
    · have h := h1 c; clear h1 h2
      refine lv_iconst (v := 1) C.x C.b dX3_idsOf_27 (by decide) ?_
      refine lv_aload_n C.x C.b dX3_idsOf_28 rfl (lv_at hl 0 rfl) ?_
      obtain ⟨fs_8, a_9, q1, q2, h⟩ := h
      refine z_get C hR q1 rfl (ci := 3) rfl in_X3 9 (by decide) q1646 (fun _ h => h) q2 dX3_idsOf_29 ?_
      refine lv_iload_n C.x C.b dX3_idsOf_32 rfl (lv_at hl 2 rfl) ?_
      obtain ⟨n_10, f_11, q1, q2, h⟩ := h
      refine z_iald C hR q1 (by decide) q2 dX3_idsOf_33 ?_
      have h := h _ rfl
      generalize f_11 x2.toNatClampNeg = v_12 at h ⊢
      refine lv_ishl C.x C.b dX3_idsOf_34 ?_
      refine lv_ior C.x C.b dX3_idsOf_35 ?_
      refine lv_istore_n (lv' := [(1, .int (x1 ||| (1 <<< (v_12 &&& 31)))), (0, .ref a0), (2, .int x2)]) C.x C.b dX3_idsOf_36 rfl hl (by decide) rfl (fun ls hl => ?_)
      refine lv_iinc (v := x2 + 1) (lv' := [(2, .int (x2 + 1)), (1, .int (x1 ||| (1 <<< (v_12 &&& 31)))), (0, .ref a0)]) C.x C.b dX3_idsOf_37 hl (k := 2) rfl rfl (by decide) rfl (fun ls hl => ?_)
      refine lv_goto (tgt := 4) C.x C.b dX3_idsOf_40 (by decide) ?_
      exact h H locs ls hR hS (lv_sub hl [2, 1, 0] rfl)
    · have h := h2 c; clear h1 h2
      refine lv_iconst (v := 0) C.x C.b dX3_idsOf_23 (by decide) ?_
      refine lv_goto (tgt := 35) C.x C.b dX3_idsOf_24 (by decide) ?_
      refine lv_ior C.x C.b dX3_idsOf_35 ?_
      refine lv_istore_n (lv' := [(1, .int (x1 ||| 0)), (0, .ref a0), (2, .int x2)]) C.x C.b dX3_idsOf_36 rfl hl (by decide) rfl (fun ls hl => ?_)
      refine lv_iinc (v := x2 + 1) (lv' := [(2, .int (x2 + 1)), (1, .int (x1 ||| 0)), (0, .ref a0)]) C.x C.b dX3_idsOf_37 hl (k := 2) rfl rfl (by decide) rfl (fun ls hl => ?_)
      refine lv_goto (tgt := 4) C.x C.b dX3_idsOf_40 (by decide) ?_
      exact h H locs ls hR hS (lv_sub hl [2, 1, 0] rfl)
set_option maxHeartbeats 4000000 in
theorem mX3_idsOf {X : zX} {d : Nat} {g : zG} {K : Option Value → zG → Prop} {KX : String → zG → Prop} (hok : zOk X) (a0 : Nat) (h : ∀ E : zM, zC X d E RX3 cX3_idsOf 3 (some .int) "idsOf" → zQ X E K KX → GW X E 3 g 4 [(0, .ref a0), (1, .int 0), (2, .int 0)] []) : zCal X d yX3_idsOf wX3_idsOf [.ref a0] g K KX := by
  refine z_enter hok pn_X3 (Nat.le_of_ble_eq_true rfl) (fun E C hQ => ?_)
  have C : zC X d E RX3 cX3_idsOf 3 (some .int) "idsOf" := C
  have h := h E C hQ
  show GW X E 3 g 0 [(0, .ref a0)] []
  intro H locs ls hR hS hl
  refine lv_iconst (v := 0) C.x C.b dX3_idsOf_0 (by decide) ?_
  refine lv_istore_n (lv' := [(1, .int 0), (0, .ref a0)]) C.x C.b dX3_idsOf_1 rfl hl (by decide) rfl (fun ls hl => ?_)
  refine lv_iconst (v := 0) C.x C.b dX3_idsOf_2 (by decide) ?_
  refine lv_istore_n (lv' := [(2, .int 0), (1, .int 0), (0, .ref a0)]) C.x C.b dX3_idsOf_3 rfl hl (by decide) rfl (fun ls hl => ?_)
  exact h H locs ls hR hS (lv_sub hl [2, 1, 0] rfl)
set_option maxHeartbeats 4000000 in
theorem bX3_lines_10 {X : zX} {d : Nat} {E : zM} {K : Option Value → zG → Prop} {KX : String → zG → Prop} (C : zC X d E RX3 cX3_lines 2 none "lines") (hQ : zQ X E K KX) (g : zG) (a0 : Nat) (x1 : Int32) (h : ∃ (fs_1 : List Value) (v_2 : Int32), zGo g 3 a0 = some fs_1 ∧ fs_1[3]? = some (.int v_2) ∧ (v_2 ≤ x1 → K none g) ∧ (¬ v_2 ≤ x1 → ∃ (fs_3 : List Value) (a_4 : Nat), zGo g 3 a0 = some fs_3 ∧ fs_3[30]? = some (.ref a_4) ∧ ∃ (fs_5 : List Value) (a_6 : Nat), zGo g 3 a0 = some fs_5 ∧ fs_5[12]? = some (.ref a_6) ∧ ∃ (n_7 : Nat) (f_8 : Nat → Int32), zGi g 12 a_6 = some (n_7, f_8) ∧ vp_in x1 n_7 ∧ ∀ v_9 : Int32, v_9 = f_8 x1.toNatClampNeg → ∃ (n_10 : Nat) (f_11 : Nat → Int32), zGi g 30 a_4 = some (n_10, f_11) ∧ vp_in x1 n_10 ∧ ∀ g_12 : zG, g_12 = zSi g 30 a_4 n_10 (upd f_11 x1.toNatClampNeg v_9) → GW X E 2 g_12 10 [(0, .ref a0), (1, .int (x1 + 1))] [])) : GW X E 2 g 10 [(0, .ref a0), (1, .int x1)] [] := by
  intro H locs ls hR hS hl
  refine lv_iload_n C.x C.b dX3_lines_10 rfl (lv_at hl 1 rfl) ?_
  refine lv_aload_n C.x C.b dX3_lines_11 rfl (lv_at hl 0 rfl) ?_
  obtain ⟨fs_1, v_2, q1, q2, h⟩ := h
  refine z_get C hR q1 rfl (ci := 3) rfl in_X3 3 (by decide) q1640 (fun _ h => h) q2 dX3_lines_12 ?_
  obtain ⟨h1, h2⟩ := h
  refine lv_icmp_ge (tgt := 36) C.x C.b dX3_lines_15 (by decide) (fun c => ?_) (fun c => ?_)
  · have h := h1 c; clear h1 h2
    exact z_vret C hQ dX3_lines_36 h H locs ls hR hS hl
  · have h := h2 c; clear h1 h2
    refine lv_aload_n C.x C.b dX3_lines_18 rfl (lv_at hl 0 rfl) ?_
    obtain ⟨fs_3, a_4, q1, q2, h⟩ := h
    refine z_get C hR q1 rfl (ci := 3) rfl in_X3 30 (by decide) q1667 (fun _ h => h) q2 dX3_lines_19 ?_
    refine lv_iload_n C.x C.b dX3_lines_22 rfl (lv_at hl 1 rfl) ?_
    refine lv_aload_n C.x C.b dX3_lines_23 rfl (lv_at hl 0 rfl) ?_
    obtain ⟨fs_5, a_6, q1, q2, h⟩ := h
    refine z_get C hR q1 rfl (ci := 3) rfl in_X3 12 (by decide) q1649 (fun _ h => h) q2 dX3_lines_24 ?_
    refine lv_iload_n C.x C.b dX3_lines_27 rfl (lv_at hl 1 rfl) ?_
    obtain ⟨n_7, f_8, q1, q2, h⟩ := h
    refine z_iald C hR q1 (by decide) q2 dX3_lines_28 ?_
    have h := h _ rfl
    generalize f_8 x1.toNatClampNeg = v_9 at h ⊢
    obtain ⟨n_10, f_11, q1, q2, h⟩ := h
    refine z_iast C hR hS q1 (by decide) q2 dX3_lines_29 (fun H locs hR hS => ?_)
    have h := h _ rfl
    generalize zSi g 30 a_4 n_10 (upd f_11 x1.toNatClampNeg v_9) = g_12 at h hR
    refine lv_iinc (v := x1 + 1) (lv' := [(1, .int (x1 + 1)), (0, .ref a0)]) C.x C.b dX3_lines_30 hl (k := 1) rfl rfl (by decide) rfl (fun ls hl => ?_)
    refine lv_goto (tgt := 10) C.x C.b dX3_lines_33 (by decide) ?_
    exact h H locs ls hR hS (lv_sub hl [1, 0] rfl)
set_option maxHeartbeats 4000000 in
theorem mX3_lines {X : zX} {d : Nat} {g : zG} {K : Option Value → zG → Prop} {KX : String → zG → Prop} (hok : zOk X) (a0 : Nat) (h : ∀ E : zM, zC X d E RX3 cX3_lines 2 none "lines" → zQ X E K KX → ∃ (fs_1 : List Value) (v_2 : Int32), zGo g 3 a0 = some fs_1 ∧ fs_1[3]? = some (.int v_2) ∧ ∃ (fs_3 : List Value), zGo g 3 a0 = some fs_3 ∧ 29 < fs_3.length ∧ ∀ g_4 : zG, g_4 = zSo g 3 a0 (fs_3.set 29 (.int v_2)) → GW X E 2 g_4 10 [(0, .ref a0), (1, .int 0)] []) : zCal X d yX3_lines wX3_lines [.ref a0] g K KX := by
  refine z_enter hok pn_X3 (Nat.le_of_ble_eq_true rfl) (fun E C hQ => ?_)
  have C : zC X d E RX3 cX3_lines 2 none "lines" := C
  have h := h E C hQ
  show GW X E 2 g 0 [(0, .ref a0)] []
  intro H locs ls hR hS hl
  refine lv_aload_n C.x C.b dX3_lines_0 rfl (lv_at hl 0 rfl) ?_
  refine lv_aload_n C.x C.b dX3_lines_1 rfl (lv_at hl 0 rfl) ?_
  obtain ⟨fs_1, v_2, q1, q2, h⟩ := h
  refine z_get C hR q1 rfl (ci := 3) rfl in_X3 3 (by decide) q1640 (fun _ h => h) q2 dX3_lines_2 ?_
  obtain ⟨fs_3, q1, q2, h⟩ := h
  refine z_put C hR hS q1 rfl (ci := 3) rfl in_X3 tyX3 tyX3_ok nmX3 29 (by decide) q1666 (fun _ h => h) rfl ⟨rfl, rfl⟩ q2 dX3_lines_5 (fun H locs hR hS => ?_)
  have h := h _ rfl
  generalize zSo g 3 a0 (fs_3.set 29 (.int v_2)) = g_4 at h hR
  refine lv_iconst (v := 0) C.x C.b dX3_lines_8 (by decide) ?_
  refine lv_istore_n (lv' := [(1, .int 0), (0, .ref a0)]) C.x C.b dX3_lines_9 rfl hl (by decide) rfl (fun ls hl => ?_)
  exact h H locs ls hR hS (lv_sub hl [1, 0] rfl)
theorem hdV_X3_finds : yX3_finds.cls = RX3 ∧ yX3_finds.cls ≠ "java/lang/invoke/MethodHandle" ∧ yX3_finds.cls ≠ "java/lang/invoke/VarHandle" ∧ (parseMethodDescriptor yX3_finds.desc).map (fun d => d.parameters.length) = some 1 := by decide +kernel
theorem hdV_X3_idsOf : yX3_idsOf.cls = RX3 ∧ yX3_idsOf.cls ≠ "java/lang/invoke/MethodHandle" ∧ yX3_idsOf.cls ≠ "java/lang/invoke/VarHandle" ∧ (parseMethodDescriptor yX3_idsOf.desc).map (fun d => d.parameters.length) = some 0 := by decide +kernel
theorem hdV_X3_lines : yX3_lines.cls = RX3 ∧ yX3_lines.cls ≠ "java/lang/invoke/MethodHandle" ∧ yX3_lines.cls ≠ "java/lang/invoke/VarHandle" ∧ (parseMethodDescriptor yX3_lines.desc).map (fun d => d.parameters.length) = some 0 := by decide +kernel
set_option maxHeartbeats 4000000 in
theorem bX3_keeps_22 {X : zX} {d : Nat} {E : zM} {K : Option Value → zG → Prop} {KX : String → zG → Prop} (C : zC X (d + 1) E RX3 cX3_keeps 7 (some .int) "keeps") (hQ : zQ X E K KX) (g : zG) (a0 : Nat) (x1 : Int32) (x2 : Int32) (x3 : Int32) (x4 : Int32) (h : ∃ (fs_1 : List Value) (v_2 : Int32), zGo g 3 a0 = some fs_1 ∧ fs_1[3]? = some (.int v_2) ∧ (v_2 ≤ x4 → K (some (.int x3)) g) ∧ (¬ v_2 ≤ x4 → (x2 ≤ x4 → GW X E 7 g 63 [(0, .ref a0), (1, .int x1), (2, .int x2), (3, .int x3), (4, .int x4), (5, .int ((80 * x1) + x4))] []) ∧ (¬ x2 ≤ x4 → ∃ (fs_3 : List Value) (a_4 : Nat), zGo g 3 a0 = some fs_3 ∧ fs_3[25]? = some (.ref a_4) ∧ ∃ (n_5 : Nat) (f_6 : Nat → Int32), zGi g 25 a_4 = some (n_5, f_6) ∧ vp_in ((80 * x1) + x4) n_5 ∧ ∀ v_7 : Int32, v_7 = f_6 ((80 * x1) + x4).toNatClampNeg → ∃ (fs_8 : List Value) (a_9 : Nat), zGo g 3 a0 = some fs_8 ∧ fs_8[33]? = some (.ref a_9) ∧ ∃ (n_10 : Nat) (f_11 : Nat → Int32), zGi g 33 a_9 = some (n_10, f_11) ∧ vp_in x4 n_10 ∧ ∀ v_12 : Int32, v_12 = f_11 x4.toNatClampNeg → (v_7 = v_12 → GW X E 7 g 68 [(0, .ref a0), (1, .int x1), (2, .int x2), (3, .int x3), (4, .int x4), (5, .int ((80 * x1) + x4))] [.int 0]) ∧ (¬ v_7 = v_12 → GW X E 7 g 63 [(0, .ref a0), (1, .int x1), (2, .int x2), (3, .int x3), (4, .int x4), (5, .int ((80 * x1) + x4))] [])))) : GW X E 7 g 22 [(0, .ref a0), (1, .int x1), (2, .int x2), (3, .int x3), (4, .int x4)] [] := by
  intro H locs ls hR hS hl
  refine lv_iload C.x C.b dX3_keeps_22 (lv_at hl 4 rfl) ?_
  refine lv_aload_n C.x C.b dX3_keeps_24 rfl (lv_at hl 0 rfl) ?_
  obtain ⟨fs_1, v_2, q1, q2, h⟩ := h
  refine z_get C hR q1 rfl (ci := 3) rfl in_X3 3 (by decide) q1640 (fun _ h => h) q2 dX3_keeps_25 ?_
  obtain ⟨h1, h2⟩ := h
  refine lv_icmp_ge (tgt := 188) C.x C.b dX3_keeps_28 (by decide) (fun c => ?_) (fun c => ?_)
  · have h := h1 c; clear h1 h2
    refine lv_iload_n C.x C.b dX3_keeps_188 rfl (lv_at hl 3 rfl) ?_
    exact z_iret C hQ dX3_keeps_189 h H locs ls hR hS hl
  · have h := h2 c; clear h1 h2
    refine lv_bipush (v := 80) C.x C.b dX3_keeps_31 (by decide) ?_
    refine lv_iload_n C.x C.b dX3_keeps_33 rfl (lv_at hl 1 rfl) ?_
    refine lv_imul C.x C.b dX3_keeps_34 ?_
    refine lv_iload C.x C.b dX3_keeps_35 (lv_at hl 4 rfl) ?_
    refine lv_iadd C.x C.b dX3_keeps_37 ?_
    refine lv_istore (lv' := [(5, .int ((80 * x1) + x4)), (0, .ref a0), (1, .int x1), (2, .int x2), (3, .int x3), (4, .int x4)]) C.x C.b dX3_keeps_38 hl (by decide) rfl (fun ls hl => ?_)
    refine lv_iload C.x C.b dX3_keeps_40 (lv_at hl 5 rfl) ?_
    refine lv_iload_n C.x C.b dX3_keeps_42 rfl (lv_at hl 3 rfl) ?_
    obtain ⟨h1, h2⟩ := h
    refine lv_icmp_ge (tgt := 63) C.x C.b dX3_keeps_43 (by decide) (fun c => ?_) (fun c => ?_)
    · have h := h1 c; clear h1 h2
      exact h H locs ls hR hS (lv_sub hl [1, 2, 3, 4, 5, 0] rfl)
    · have h := h2 c; clear h1 h2
      refine lv_aload_n C.x C.b dX3_keeps_46 rfl (lv_at hl 1 rfl) ?_
      obtain ⟨fs_3, a_4, q1, q2, h⟩ := h
      refine z_get C hR q1 rfl (ci := 3) rfl in_X3 25 (by decide) q1662 (fun _ h => h) q2 dX3_keeps_47 ?_
      refine lv_iload C.x C.b dX3_keeps_50 (lv_at hl 0 rfl) ?_
      obtain ⟨n_5, f_6, q1, q2, h⟩ := h
      refine z_iald C hR q1 (by decide) q2 dX3_keeps_52 ?_
      have h := h _ rfl
      generalize f_6 ((80 * x1) + x4).toNatClampNeg = v_7 at h ⊢
      refine lv_aload_n C.x C.b dX3_keeps_53 rfl (lv_at hl 1 rfl) ?_
      obtain ⟨fs_8, a_9, q1, q2, h⟩ := h
      refine z_get C hR q1 rfl (ci := 3) rfl in_X3 33 (by decide) q1670 (fun _ h => h) q2 dX3_keeps_54 ?_
      refine lv_iload C.x C.b dX3_keeps_57 (lv_at hl 5 rfl) ?_
      obtain ⟨n_10, f_11, q1, q2, h⟩ := h
      refine z_iald C hR q1 (by decide) q2 dX3_keeps_59 ?_
      have h := h _ rfl
      generalize f_11 x4.toNatClampNeg = v_12 at h ⊢
      obtain ⟨h1, h2⟩ := h
      refine lv_icmp_eq (tgt := 67) C.x C.b dX3_keeps_60 (by decide) (fun c => ?_) (fun c => ?_)
      · have h := h1 c; clear h1 h2
        refine lv_iconst (v := 0) C.x C.b dX3_keeps_67 (by decide) ?_
        exact h H locs ls hR hS (lv_sub hl [1, 2, 3, 4, 5, 0] rfl)
      · have h := h2 c; clear h1 h2
        exact h H locs ls hR hS (lv_sub hl [1, 2, 3, 4, 5, 0] rfl)
set_option maxHeartbeats 4000000 in
theorem bX3_keeps_63 {X : zX} {d : Nat} {E : zM} {K : Option Value → zG → Prop} {KX : String → zG → Prop} (C : zC X (d + 1) E RX3 cX3_keeps 7 (some .int) "keeps") (hQ : zQ X E K KX) (g : zG) (a0 : Nat) (x1 : Int32) (x2 : Int32) (x3 : Int32) (x4 : Int32) (x5 : Int32) (h : GW X E 7 g 68 [(0, .ref a0), (1, .int x1), (2, .int x2), (3, .int x3), (4, .int x4), (5, .int x5)] [.int 1]) : GW X E 7 g 63 [(0, .ref a0), (1, .int x1), (2, .int x2), (3, .int x3), (4, .int x4), (5, .int x5)] [] := by
  intro H locs ls hR hS hl
  refine lv_iconst (v := 1) C.x C.b dX3_keeps_63 (by decide) ?_
  refine lv_goto (tgt := 68) C.x C.b dX3_keeps_64 (by decide) ?_
  exact h H locs ls hR hS (lv_sub hl [0, 1, 2, 3, 4, 5] rfl)
set_option maxHeartbeats 4000000 in
theorem bX3_keeps_68 {X : zX} {d : Nat} {E : zM} {K : Option Value → zG → Prop} {KX : String → zG → Prop} (C : zC X (d + 1) E RX3 cX3_keeps 7 (some .int) "keeps") (hQ : zQ X E K KX) (g : zG) (a0 : Nat) (x1 : Int32) (x2 : Int32) (x3 : Int32) (x4 : Int32) (x5 : Int32) (t0 : Int32) (h : (x2 ≤ x4 → GW X E 7 g 103 [(0, .ref a0), (1, .int x1), (2, .int x2), (4, .int x4), (5, .int x5), (6, .int t0)] [.int x3]) ∧ (¬ x2 ≤ x4 → ∃ (fs_1 : List Value) (a_2 : Nat), zGo g 3 a0 = some fs_1 ∧ fs_1[25]? = some (.ref a_2) ∧ ∃ (n_3 : Nat) (f_4 : Nat → Int32), zGi g 25 a_2 = some (n_3, f_4) ∧ vp_in x5 n_3 ∧ ∀ v_5 : Int32, v_5 = f_4 x5.toNatClampNeg → (¬ v_5 = 2 → GW X E 7 g 103 [(0, .ref a0), (1, .int x1), (2, .int x2), (4, .int x4), (5, .int x5), (6, .int t0)] [.int x3]) ∧ (v_5 = 2 → ∃ (fs_6 : List Value) (a_7 : Nat), zGo g 3 a0 = some fs_6 ∧ fs_6[33]? = some (.ref a_7) ∧ ∃ (n_8 : Nat) (f_9 : Nat → Int32), zGi g 33 a_7 = some (n_8, f_9) ∧ vp_in x4 n_8 ∧ ∀ v_10 : Int32, v_10 = f_9 x4.toNatClampNeg → (v_10 = 2 → GW X E 7 g 103 [(0, .ref a0), (1, .int x1), (2, .int x2), (4, .int x4), (5, .int x5), (6, .int t0)] [.int x3]) ∧ (¬ v_10 = 2 → GW X E 7 g 104 [(0, .ref a0), (1, .int x1), (2, .int x2), (4, .int x4), (5, .int x5), (6, .int t0)] [.int 1, .int x3])))) : GW X E 7 g 68 [(0, .ref a0), (1, .int x1), (2, .int x2), (3, .int x3), (4, .int x4), (5, .int x5)] [.int t0] := by
  intro H locs ls hR hS hl
  refine lv_istore (lv' := [(6, .int t0), (0, .ref a0), (1, .int x1), (2, .int x2), (3, .int x3), (4, .int x4), (5, .int x5)]) C.x C.b dX3_keeps_68 hl (by decide) rfl (fun ls hl => ?_)
  refine lv_iload_n C.x C.b dX3_keeps_70 rfl (lv_at hl 4 rfl) ?_
  refine lv_iload C.x C.b dX3_keeps_71 (lv_at hl 5 rfl) ?_
  refine lv_iload_n C.x C.b dX3_keeps_73 rfl (lv_at hl 3 rfl) ?_
  obtain ⟨h1, h2⟩ := h
  refine lv_icmp_ge (tgt := 103) C.x C.b dX3_keeps_74 (by decide) (fun c => ?_) (fun c => ?_)
  · have h := h1 c; clear h1 h2
    exact h H locs ls hR hS (lv_sub hl [1, 2, 3, 5, 6, 0] rfl)
  · have h := h2 c; clear h1 h2
    refine lv_aload_n C.x C.b dX3_keeps_77 rfl (lv_at hl 1 rfl) ?_
    obtain ⟨fs_1, a_2, q1, q2, h⟩ := h
    refine z_get C hR q1 rfl (ci := 3) rfl in_X3 25 (by decide) q1662 (fun _ h => h) q2 dX3_keeps_78 ?_
    refine lv_iload C.x C.b dX3_keeps_81 (lv_at hl 6 rfl) ?_
    obtain ⟨n_3, f_4, q1, q2, h⟩ := h
    refine z_iald C hR q1 (by decide) q2 dX3_keeps_83 ?_
    have h := h _ rfl
    generalize f_4 x5.toNatClampNeg = v_5 at h ⊢
    refine lv_iconst (v := 2) C.x C.b dX3_keeps_84 (by decide) ?_
    obtain ⟨h1, h2⟩ := h
    refine lv_icmp_ne (tgt := 103) C.x C.b dX3_keeps_85 (by decide) (fun c => ?_) (fun c => ?_)
    · have h := h1 c; clear h1 h2
      exact h H locs ls hR hS (lv_sub hl [1, 2, 3, 5, 6, 0] rfl)
    · have h := h2 c; clear h1 h2
      refine lv_aload_n C.x C.b dX3_keeps_88 rfl (lv_at hl 1 rfl) ?_
      obtain ⟨fs_6, a_7, q1, q2, h⟩ := h
      refine z_get C hR q1 rfl (ci := 3) rfl in_X3 33 (by decide) q1670 (fun _ h => h) q2 dX3_keeps_89 ?_
      refine lv_iload C.x C.b dX3_keeps_92 (lv_at hl 5 rfl) ?_
      obtain ⟨n_8, f_9, q1, q2, h⟩ := h
      refine z_iald C hR q1 (by decide) q2 dX3_keeps_94 ?_
      have h := h _ rfl
      generalize f_9 x4.toNatClampNeg = v_10 at h ⊢
      refine lv_iconst (v := 2) C.x C.b dX3_keeps_95 (by decide) ?_
      obtain ⟨h1, h2⟩ := h
      refine lv_icmp_eq (tgt := 103) C.x C.b dX3_keeps_96 (by decide) (fun c => ?_) (fun c => ?_)
      · have h := h1 c; clear h1 h2
        exact h H locs ls hR hS (lv_sub hl [1, 2, 3, 5, 6, 0] rfl)
      · have h := h2 c; clear h1 h2
        refine lv_iconst (v := 1) C.x C.b dX3_keeps_99 (by decide) ?_
        refine lv_goto (tgt := 104) C.x C.b dX3_keeps_100 (by decide) ?_
        exact h H locs ls hR hS (lv_sub hl [1, 2, 3, 5, 6, 0] rfl)
set_option maxHeartbeats 4000000 in
theorem bX3_keeps_103 {X : zX} {d : Nat} {E : zM} {K : Option Value → zG → Prop} {KX : String → zG → Prop} (C : zC X (d + 1) E RX3 cX3_keeps 7 (some .int) "keeps") (hQ : zQ X E K KX) (g : zG) (a0 : Nat) (x1 : Int32) (x2 : Int32) (x4 : Int32) (x5 : Int32) (x6 : Int32) (t0 : Int32) (h : GW X E 7 g 104 [(0, .ref a0), (1, .int x1), (2, .int x2), (4, .int x4), (5, .int x5), (6, .int x6)] [.int 0, .int t0]) : GW X E 7 g 103 [(0, .ref a0), (1, .int x1), (2, .int x2), (4, .int x4), (5, .int x5), (6, .int x6)] [.int t0] := by
  intro H locs ls hR hS hl
  refine lv_iconst (v := 0) C.x C.b dX3_keeps_103 (by decide) ?_
  exact h H locs ls hR hS (lv_sub hl [0, 1, 2, 3, 4, 5] rfl)
set_option maxHeartbeats 4000000 in
theorem bX3_keeps_104 {X : zX} {d : Nat} {E : zM} {K : Option Value → zG → Prop} {KX : String → zG → Prop} (C : zC X (d + 1) E RX3 cX3_keeps 7 (some .int) "keeps") (hQ : zQ X E K KX) (g : zG) (a0 : Nat) (x1 : Int32) (x2 : Int32) (x4 : Int32) (x5 : Int32) (x6 : Int32) (t0 : Int32) (t1 : Int32) (h : ∃ (fs_1 : List Value) (a_2 : Nat), zGo g 3 a0 = some fs_1 ∧ fs_1[24]? = some (.ref a_2) ∧ ∃ (n_3 : Nat) (f_4 : Nat → Int32), zGi g 24 a_2 = some (n_3, f_4) ∧ vp_in x1 n_3 ∧ ∀ v_5 : Int32, v_5 = f_4 x1.toNatClampNeg → (x2 ≤ x4 → GW X E 7 g 139 [(0, .ref a0), (1, .int x1), (2, .int x2), (3, .int (t0 + t1)), (4, .int x4), (5, .int x5), (6, .int x6)] [.int v_5, .int x1, .ref a_2]) ∧ (¬ x2 ≤ x4 → (x6 = 0 → GW X E 7 g 139 [(0, .ref a0), (1, .int x1), (2, .int x2), (3, .int (t0 + t1)), (4, .int x4), (5, .int x5), (6, .int x6)] [.int v_5, .int x1, .ref a_2]) ∧ (¬ x6 = 0 → ∃ (fs_6 : List Value) (a_7 : Nat), zGo g 3 a0 = some fs_6 ∧ fs_6[25]? = some (.ref a_7) ∧ ∃ (n_8 : Nat) (f_9 : Nat → Int32), zGi g 25 a_7 = some (n_8, f_9) ∧ vp_in x5 n_8 ∧ ∀ v_10 : Int32, v_10 = f_9 x5.toNatClampNeg → (v_10 = 2 → GW X E 7 g 139 [(0, .ref a0), (1, .int x1), (2, .int x2), (3, .int (t0 + t1)), (4, .int x4), (5, .int x5), (6, .int x6)] [.int v_5, .int x1, .ref a_2]) ∧ (¬ v_10 = 2 → GW X E 7 g 140 [(0, .ref a0), (1, .int x1), (2, .int x2), (3, .int (t0 + t1)), (4, .int x4), (5, .int x5), (6, .int x6)] [.int 1, .int v_5, .int x1, .ref a_2])))) : GW X E 7 g 104 [(0, .ref a0), (1, .int x1), (2, .int x2), (4, .int x4), (5, .int x5), (6, .int x6)] [.int t1, .int t0] := by
  intro H locs ls hR hS hl
  refine lv_iadd C.x C.b dX3_keeps_104 ?_
  refine lv_istore_n (lv' := [(3, .int (t0 + t1)), (0, .ref a0), (1, .int x1), (2, .int x2), (4, .int x4), (5, .int x5), (6, .int x6)]) C.x C.b dX3_keeps_105 rfl hl (by decide) rfl (fun ls hl => ?_)
  refine lv_aload_n C.x C.b dX3_keeps_106 rfl (lv_at hl 1 rfl) ?_
  obtain ⟨fs_1, a_2, q1, q2, h⟩ := h
  refine z_get C hR q1 rfl (ci := 3) rfl in_X3 24 (by decide) q1661 (fun _ h => h) q2 dX3_keeps_107 ?_
  refine lv_iload_n C.x C.b dX3_keeps_110 rfl (lv_at hl 2 rfl) ?_
  refine lv_dup2_11 C.x C.b dX3_keeps_111 rfl rfl ?_
  obtain ⟨n_3, f_4, q1, q2, h⟩ := h
  refine z_iald C hR q1 (by decide) q2 dX3_keeps_112 ?_
  have h := h _ rfl
  generalize f_4 x1.toNatClampNeg = v_5 at h ⊢
  refine lv_iload C.x C.b dX3_keeps_113 (lv_at hl 4 rfl) ?_
  refine lv_iload_n C.x C.b dX3_keeps_115 rfl (lv_at hl 3 rfl) ?_
  obtain ⟨h1, h2⟩ := h
  refine lv_icmp_ge (tgt := 139) C.x C.b dX3_keeps_116 (by decide) (fun c => ?_) (fun c => ?_)
  · have h := h1 c; clear h1 h2
    exact h H locs ls hR hS (lv_sub hl [1, 2, 3, 0, 4, 5, 6] rfl)
  · have h := h2 c; clear h1 h2
    refine lv_iload C.x C.b dX3_keeps_119 (lv_at hl 6 rfl) ?_
    obtain ⟨h1, h2⟩ := h
    refine lv_if_eq (tgt := 139) C.x C.b dX3_keeps_121 (by decide) (fun c => ?_) (fun c => ?_)
    · have h := h1 c; clear h1 h2
      exact h H locs ls hR hS (lv_sub hl [1, 2, 3, 0, 4, 5, 6] rfl)
    · have h := h2 c; clear h1 h2
      refine lv_aload_n C.x C.b dX3_keeps_124 rfl (lv_at hl 1 rfl) ?_
      obtain ⟨fs_6, a_7, q1, q2, h⟩ := h
      refine z_get C hR q1 rfl (ci := 3) rfl in_X3 25 (by decide) q1662 (fun _ h => h) q2 dX3_keeps_125 ?_
      refine lv_iload C.x C.b dX3_keeps_128 (lv_at hl 5 rfl) ?_
      obtain ⟨n_8, f_9, q1, q2, h⟩ := h
      refine z_iald C hR q1 (by decide) q2 dX3_keeps_130 ?_
      have h := h _ rfl
      generalize f_9 x5.toNatClampNeg = v_10 at h ⊢
      refine lv_iconst (v := 2) C.x C.b dX3_keeps_131 (by decide) ?_
      obtain ⟨h1, h2⟩ := h
      refine lv_icmp_eq (tgt := 139) C.x C.b dX3_keeps_132 (by decide) (fun c => ?_) (fun c => ?_)
      · have h := h1 c; clear h1 h2
        exact h H locs ls hR hS (lv_sub hl [1, 2, 3, 0, 4, 5, 6] rfl)
      · have h := h2 c; clear h1 h2
        refine lv_iconst (v := 1) C.x C.b dX3_keeps_135 (by decide) ?_
        refine lv_goto (tgt := 140) C.x C.b dX3_keeps_136 (by decide) ?_
        exact h H locs ls hR hS (lv_sub hl [1, 2, 3, 0, 4, 5, 6] rfl)
set_option maxHeartbeats 4000000 in
theorem bX3_keeps_139 {X : zX} {d : Nat} {E : zM} {K : Option Value → zG → Prop} {KX : String → zG → Prop} (C : zC X (d + 1) E RX3 cX3_keeps 7 (some .int) "keeps") (hQ : zQ X E K KX) (g : zG) (a0 : Nat) (x1 : Int32) (x2 : Int32) (x3 : Int32) (x4 : Int32) (x5 : Int32) (x6 : Int32) (b0 : Nat) (t1 : Int32) (t2 : Int32) (h : GW X E 7 g 140 [(0, .ref a0), (1, .int x1), (2, .int x2), (3, .int x3), (4, .int x4), (5, .int x5), (6, .int x6)] [.int 0, .int t2, .int t1, .ref b0]) : GW X E 7 g 139 [(0, .ref a0), (1, .int x1), (2, .int x2), (3, .int x3), (4, .int x4), (5, .int x5), (6, .int x6)] [.int t2, .int t1, .ref b0] := by
  intro H locs ls hR hS hl
  refine lv_iconst (v := 0) C.x C.b dX3_keeps_139 (by decide) ?_
  exact h H locs ls hR hS (lv_sub hl [0, 1, 2, 3, 4, 5, 6] rfl)
set_option maxHeartbeats 4000000 in
theorem bX3_keeps_140 {X : zX} {d : Nat} {E : zM} {K : Option Value → zG → Prop} {KX : String → zG → Prop} (C : zC X (d + 1) E RX3 cX3_keeps 7 (some .int) "keeps") (hQ : zQ X E K KX) (g : zG) (a0 : Nat) (x1 : Int32) (x2 : Int32) (x3 : Int32) (x4 : Int32) (x5 : Int32) (x6 : Int32) (b0 : Nat) (t1 : Int32) (t2 : Int32) (t3 : Int32) (h : ∃ (t_39 : Nat) (n_1 : Nat) (f_2 : Nat → Int32), zGi g t_39 b0 = some (n_1, f_2) ∧ t_39 < 100 ∧ vp_in t1 n_1 ∧ ∀ g_3 : zG, g_3 = zSi g t_39 b0 n_1 (upd f_2 t1.toNatClampNeg (t2 + t3)) → ∃ (fs_4 : List Value) (a_5 : Nat), zGo g_3 3 a0 = some fs_4 ∧ fs_4[26]? = some (.ref a_5) ∧ (x6 = 0 → ∃ (fs_6 : List Value) (a_7 : Nat), zGo g_3 3 a0 = some fs_6 ∧ fs_6[26]? = some (.ref a_7) ∧ ∃ (n_8 : Nat) (f_9 : Nat → Int32), zGi g_3 26 a_7 = some (n_8, f_9) ∧ vp_in x5 n_8 ∧ ∀ v_10 : Int32, v_10 = f_9 x5.toNatClampNeg → ∃ (n_11 : Nat) (f_12 : Nat → Int32), zGi g_3 26 a_5 = some (n_11, f_12) ∧ vp_in x5 n_11 ∧ ∀ g_13 : zG, g_13 = zSi g_3 26 a_5 n_11 (upd f_12 x5.toNatClampNeg v_10) → ∃ (fs_14 : List Value) (a_15 : Nat), zGo g_13 3 a0 = some fs_14 ∧ fs_14[25]? = some (.ref a_15) ∧ ∃ (fs_16 : List Value) (a_17 : Nat), zGo g_13 3 a0 = some fs_16 ∧ fs_16[33]? = some (.ref a_17) ∧ ∃ (n_18 : Nat) (f_19 : Nat → Int32), zGi g_13 33 a_17 = some (n_18, f_19) ∧ vp_in x4 n_18 ∧ ∀ v_20 : Int32, v_20 = f_19 x4.toNatClampNeg → ∃ (n_21 : Nat) (f_22 : Nat → Int32), zGi g_13 25 a_15 = some (n_21, f_22) ∧ vp_in x5 n_21 ∧ ∀ g_23 : zG, g_23 = zSi g_13 25 a_15 n_21 (upd f_22 x5.toNatClampNeg v_20) → GW X E 7 g_23 22 [(0, .ref a0), (1, .int x1), (2, .int x2), (3, .int x3), (4, .int (x4 + 1))] []) ∧ (¬ x6 = 0 → ∃ (fs_24 : List Value) (v_25 : Int32), zGo g_3 3 a0 = some fs_24 ∧ fs_24[3]? = some (.int v_25) ∧ ∃ (n_26 : Nat) (f_27 : Nat → Int32), zGi g_3 26 a_5 = some (n_26, f_27) ∧ vp_in x5 n_26 ∧ ∀ g_28 : zG, g_28 = zSi g_3 26 a_5 n_26 (upd f_27 x5.toNatClampNeg v_25) → ∃ (fs_29 : List Value) (a_30 : Nat), zGo g_28 3 a0 = some fs_29 ∧ fs_29[25]? = some (.ref a_30) ∧ ∃ (fs_31 : List Value) (a_32 : Nat), zGo g_28 3 a0 = some fs_31 ∧ fs_31[33]? = some (.ref a_32) ∧ ∃ (n_33 : Nat) (f_34 : Nat → Int32), zGi g_28 33 a_32 = some (n_33, f_34) ∧ vp_in x4 n_33 ∧ ∀ v_35 : Int32, v_35 = f_34 x4.toNatClampNeg → ∃ (n_36 : Nat) (f_37 : Nat → Int32), zGi g_28 25 a_30 = some (n_36, f_37) ∧ vp_in x5 n_36 ∧ ∀ g_38 : zG, g_38 = zSi g_28 25 a_30 n_36 (upd f_37 x5.toNatClampNeg v_35) → GW X E 7 g_38 22 [(0, .ref a0), (1, .int x1), (2, .int x2), (3, .int x3), (4, .int (x4 + 1))] [])) : GW X E 7 g 140 [(0, .ref a0), (1, .int x1), (2, .int x2), (3, .int x3), (4, .int x4), (5, .int x5), (6, .int x6)] [.int t3, .int t2, .int t1, .ref b0] := by
  intro H locs ls hR hS hl
  refine lv_iadd C.x C.b dX3_keeps_140 ?_
  obtain ⟨t_39, n_1, f_2, q1, q0, q2, h⟩ := h
  refine z_iast C hR hS q1 q0 q2 dX3_keeps_141 (fun H locs hR hS => ?_)
  have h := h _ rfl
  generalize zSi g t_39 b0 n_1 (upd f_2 t1.toNatClampNeg (t2 + t3)) = g_3 at h hR
  refine lv_aload_n C.x C.b dX3_keeps_142 rfl (lv_at hl 0 rfl) ?_
  obtain ⟨fs_4, a_5, q1, q2, h⟩ := h
  refine z_get C hR q1 rfl (ci := 3) rfl in_X3 26 (by decide) q1663 (fun _ h => h) q2 dX3_keeps_143 ?_
  refine lv_iload C.x C.b dX3_keeps_146 (lv_at hl 5 rfl) ?_
  refine lv_iload C.x C.b dX3_keeps_148 (lv_at hl 6 rfl) ?_
  obtain ⟨h1, h2⟩ := h
  refine lv_if_eq (tgt := 160) C.x C.b dX3_keeps_150 (by decide) (fun c => ?_) (fun c => ?_)
  · have h := h1 c; clear h1 h2
    refine lv_aload_n C.x C.b dX3_keeps_160 rfl (lv_at hl 0 rfl) ?_
    obtain ⟨fs_6, a_7, q1, q2, h⟩ := h
    refine z_get C hR q1 rfl (ci := 3) rfl in_X3 26 (by decide) q1663 (fun _ h => h) q2 dX3_keeps_161 ?_
    refine lv_iload C.x C.b dX3_keeps_164 (lv_at hl 5 rfl) ?_
    obtain ⟨n_8, f_9, q1, q2, h⟩ := h
    refine z_iald C hR q1 (by decide) q2 dX3_keeps_166 ?_
    have h := h _ rfl
    generalize f_9 x5.toNatClampNeg = v_10 at h ⊢
    obtain ⟨n_11, f_12, q1, q2, h⟩ := h
    refine z_iast C hR hS q1 (by decide) q2 dX3_keeps_167 (fun H locs hR hS => ?_)
    have h := h _ rfl
    generalize zSi g_3 26 a_5 n_11 (upd f_12 x5.toNatClampNeg v_10) = g_13 at h hR
    refine lv_aload_n C.x C.b dX3_keeps_168 rfl (lv_at hl 0 rfl) ?_
    obtain ⟨fs_14, a_15, q1, q2, h⟩ := h
    refine z_get C hR q1 rfl (ci := 3) rfl in_X3 25 (by decide) q1662 (fun _ h => h) q2 dX3_keeps_169 ?_
    refine lv_iload C.x C.b dX3_keeps_172 (lv_at hl 5 rfl) ?_
    refine lv_aload_n C.x C.b dX3_keeps_174 rfl (lv_at hl 0 rfl) ?_
    obtain ⟨fs_16, a_17, q1, q2, h⟩ := h
    refine z_get C hR q1 rfl (ci := 3) rfl in_X3 33 (by decide) q1670 (fun _ h => h) q2 dX3_keeps_175 ?_
    refine lv_iload C.x C.b dX3_keeps_178 (lv_at hl 4 rfl) ?_
    obtain ⟨n_18, f_19, q1, q2, h⟩ := h
    refine z_iald C hR q1 (by decide) q2 dX3_keeps_180 ?_
    have h := h _ rfl
    generalize f_19 x4.toNatClampNeg = v_20 at h ⊢
    obtain ⟨n_21, f_22, q1, q2, h⟩ := h
    refine z_iast C hR hS q1 (by decide) q2 dX3_keeps_181 (fun H locs hR hS => ?_)
    have h := h _ rfl
    generalize zSi g_13 25 a_15 n_21 (upd f_22 x5.toNatClampNeg v_20) = g_23 at h hR
    refine lv_iinc (v := x4 + 1) (lv' := [(4, .int (x4 + 1)), (0, .ref a0), (1, .int x1), (2, .int x2), (3, .int x3), (5, .int x5), (6, .int x6)]) C.x C.b dX3_keeps_182 hl (k := 4) rfl rfl (by decide) rfl (fun ls hl => ?_)
    refine lv_goto (tgt := 22) C.x C.b dX3_keeps_185 (by decide) ?_
    exact h H locs ls hR hS (lv_sub hl [1, 2, 3, 4, 0] rfl)
  · have h := h2 c; clear h1 h2
    refine lv_aload_n C.x C.b dX3_keeps_153 rfl (lv_at hl 0 rfl) ?_
    obtain ⟨fs_24, v_25, q1, q2, h⟩ := h
    refine z_get C hR q1 rfl (ci := 3) rfl in_X3 3 (by decide) q1640 (fun _ h => h) q2 dX3_keeps_154 ?_
    refine lv_goto (tgt := 167) C.x C.b dX3_keeps_157 (by decide) ?_
    obtain ⟨n_26, f_27, q1, q2, h⟩ := h
    refine z_iast C hR hS q1 (by decide) q2 dX3_keeps_167 (fun H locs hR hS => ?_)
    have h := h _ rfl
    generalize zSi g_3 26 a_5 n_26 (upd f_27 x5.toNatClampNeg v_25) = g_28 at h hR
    refine lv_aload_n C.x C.b dX3_keeps_168 rfl (lv_at hl 0 rfl) ?_
    obtain ⟨fs_29, a_30, q1, q2, h⟩ := h
    refine z_get C hR q1 rfl (ci := 3) rfl in_X3 25 (by decide) q1662 (fun _ h => h) q2 dX3_keeps_169 ?_
    refine lv_iload C.x C.b dX3_keeps_172 (lv_at hl 5 rfl) ?_
    refine lv_aload_n C.x C.b dX3_keeps_174 rfl (lv_at hl 0 rfl) ?_
    obtain ⟨fs_31, a_32, q1, q2, h⟩ := h
    refine z_get C hR q1 rfl (ci := 3) rfl in_X3 33 (by decide) q1670 (fun _ h => h) q2 dX3_keeps_175 ?_
    refine lv_iload C.x C.b dX3_keeps_178 (lv_at hl 4 rfl) ?_
    obtain ⟨n_33, f_34, q1, q2, h⟩ := h
    refine z_iald C hR q1 (by decide) q2 dX3_keeps_180 ?_
    have h := h _ rfl
    generalize f_34 x4.toNatClampNeg = v_35 at h ⊢
    obtain ⟨n_36, f_37, q1, q2, h⟩ := h
    refine z_iast C hR hS q1 (by decide) q2 dX3_keeps_181 (fun H locs hR hS => ?_)
    have h := h _ rfl
    generalize zSi g_28 25 a_30 n_36 (upd f_37 x5.toNatClampNeg v_35) = g_38 at h hR
    refine lv_iinc (v := x4 + 1) (lv' := [(4, .int (x4 + 1)), (0, .ref a0), (1, .int x1), (2, .int x2), (3, .int x3), (5, .int x5), (6, .int x6)]) C.x C.b dX3_keeps_182 hl (k := 4) rfl rfl (by decide) rfl (fun ls hl => ?_)
    refine lv_goto (tgt := 22) C.x C.b dX3_keeps_185 (by decide) ?_
    exact h H locs ls hR hS (lv_sub hl [1, 2, 3, 4, 0] rfl)
set_option maxHeartbeats 4000000 in
theorem mX3_keeps {X : zX} {d : Nat} {g : zG} {K : Option Value → zG → Prop} {KX : String → zG → Prop} (hok : zOk X) (a0 : Nat) (x1 : Int32) (x2 : Int32) (h : ∀ E : zM, zC X (d + 1) E RX3 cX3_keeps 7 (some .int) "keeps" → zQ X E K KX → zIs g 3 a0 ∧ zCal X d yX3_lines wX3_lines [.ref a0] g (fun r g_1 => r = none ∧ zIs g_1 3 a0 ∧ zCal X d yX3_idsOf wX3_idsOf [.ref a0] g_1 (fun r g_2 => ∃ v_3 : Int32, r = some (.int v_3) ∧ ∃ (fs_4 : List Value), zGo g_2 3 a0 = some fs_4 ∧ 31 < fs_4.length ∧ ∀ g_5 : zG, g_5 = zSo g_2 3 a0 (fs_4.set 31 (.int v_3)) → zIs g_5 3 a0 ∧ zCal X d yX3_finds wX3_finds [.ref a0, .int x1] g_5 (fun r g_6 => r = none ∧ GW X E 7 g_6 22 [(0, .ref a0), (1, .int x1), (2, .int x2), (3, .int 0), (4, .int 0)] []) KX) KX) KX) : zCal X (d + 1) yX3_keeps wX3_keeps [.ref a0, .int x1, .int x2] g K KX := by
  refine z_enter hok pn_X3 (Nat.le_of_ble_eq_true rfl) (fun E C hQ => ?_)
  have C : zC X (d + 1) E RX3 cX3_keeps 7 (some .int) "keeps" := C
  have h := h E C hQ
  show GW X E 7 g 0 [(0, .ref a0), (1, .int x1), (2, .int x2)] []
  intro H locs ls hR hS hl
  refine lv_aload_n C.x C.b dX3_keeps_0 rfl (lv_at hl 0 rfl) ?_
  refine z_callV C hR hS hl (n := 0) (C1 := RX3) (T := TX3) (N := 35) (ci := 3) (y := yX3_lines) (bytes := cX3_lines) (maxL := 2) (rt := none) (As := []) (rest := []) h.1 rfl (lw_V q1789 q1791 qs33 q82 q1792) hdV_X3_lines (by decide) rfl rfl (Nat.le_of_ble_eq_true rfl) dX3_keeps_1 h.2 (fun r g_1 hk_ => ?_) (fun x g1 h => z_out C hQ h)
  clear h; obtain ⟨rfl, h⟩ := hk_
  show GW X E 7 g_1 4 [(0, .ref a0), (1, .int x1), (2, .int x2)] []
  intro H locs ls hR hS hl
  refine lv_aload_n C.x C.b dX3_keeps_4 rfl (lv_at hl 0 rfl) ?_
  refine lv_aload_n C.x C.b dX3_keeps_5 rfl (lv_at hl 0 rfl) ?_
  refine z_callV C hR hS hl (n := 0) (C1 := RX3) (T := TX3) (N := 35) (ci := 3) (y := yX3_idsOf) (bytes := cX3_idsOf) (maxL := 3) (rt := (some .int)) (As := []) (rest := [.ref a0]) h.1 rfl (lw_V q1793 q1795 qs34 q82 q1796) hdV_X3_idsOf (by decide) rfl rfl (Nat.le_of_ble_eq_true rfl) dX3_keeps_6 h.2 (fun r g_2 hk_ => ?_) (fun x g1 h => z_out C hQ h)
  clear h; obtain ⟨v_3, rfl, h⟩ := hk_
  show GW X E 7 g_2 9 [(0, .ref a0), (1, .int x1), (2, .int x2)] [.int v_3, .ref a0]
  intro H locs ls hR hS hl
  obtain ⟨fs_4, q1, q2, h⟩ := h
  refine z_put C hR hS q1 rfl (ci := 3) rfl in_X3 tyX3 tyX3_ok nmX3 31 (by decide) q1668 (fun _ h => h) rfl ⟨rfl, rfl⟩ q2 dX3_keeps_9 (fun H locs hR hS => ?_)
  have h := h _ rfl
  generalize zSo g_2 3 a0 (fs_4.set 31 (.int v_3)) = g_5 at h hR
  refine lv_aload_n C.x C.b dX3_keeps_12 rfl (lv_at hl 0 rfl) ?_
  refine lv_iload_n C.x C.b dX3_keeps_13 rfl (lv_at hl 1 rfl) ?_
  refine z_callV C hR hS hl (n := 1) (C1 := RX3) (T := TX3) (N := 35) (ci := 3) (y := yX3_finds) (bytes := cX3_finds) (maxL := 7) (rt := none) (As := [.int x1]) (rest := []) h.1 rfl (lw_V q1797 q1799 qs35 q82 q1800) hdV_X3_finds (by decide) rfl rfl (Nat.le_of_ble_eq_true rfl) dX3_keeps_14 h.2 (fun r g_6 hk_ => ?_) (fun x g1 h => z_out C hQ h)
  clear h; obtain ⟨rfl, h⟩ := hk_
  show GW X E 7 g_6 17 [(0, .ref a0), (1, .int x1), (2, .int x2)] []
  intro H locs ls hR hS hl
  refine lv_iconst (v := 0) C.x C.b dX3_keeps_17 (by decide) ?_
  refine lv_istore_n (lv' := [(3, .int 0), (0, .ref a0), (1, .int x1), (2, .int x2)]) C.x C.b dX3_keeps_18 rfl hl (by decide) rfl (fun ls hl => ?_)
  refine lv_iconst (v := 0) C.x C.b dX3_keeps_19 (by decide) ?_
  refine lv_istore (lv' := [(4, .int 0), (3, .int 0), (0, .ref a0), (1, .int x1), (2, .int x2)]) C.x C.b dX3_keeps_20 hl (by decide) rfl (fun ls hl => ?_)
  exact h H locs ls hR hS (lv_sub hl [2, 3, 4, 1, 0] rfl)
theorem hdV_X3_keeps : yX3_keeps.cls = RX3 ∧ yX3_keeps.cls ≠ "java/lang/invoke/MethodHandle" ∧ yX3_keeps.cls ≠ "java/lang/invoke/VarHandle" ∧ (parseMethodDescriptor yX3_keeps.desc).map (fun d => d.parameters.length) = some 2 := by decide +kernel
set_option maxHeartbeats 4000000 in
theorem bX3_keepsAll_4 {X : zX} {d : Nat} {E : zM} {K : Option Value → zG → Prop} {KX : String → zG → Prop} (C : zC X (d + 1) E RX3 cX3_keepsAll 4 (some .int) "keepsAll") (hQ : zQ X E K KX) (g : zG) (a0 : Nat) (x1 : Int32) (x2 : Int32) (x3 : Int32) (h : ∃ (fs_1 : List Value) (v_2 : Int32), zGo g 3 a0 = some fs_1 ∧ fs_1[20]? = some (.int v_2) ∧ (v_2 ≤ x3 → K (some (.int x2)) g) ∧ (¬ v_2 ≤ x3 → zIs g 3 a0 ∧ zCal X d yX3_keeps wX3_keeps [.ref a0, .int x3, .int x1] g (fun r g_3 => ∃ v_4 : Int32, r = some (.int v_4) ∧ GW X E 4 g_3 4 [(0, .ref a0), (1, .int x1), (2, .int (x2 + v_4)), (3, .int (x3 + 1))] []) KX)) : GW X E 4 g 4 [(0, .ref a0), (1, .int x1), (2, .int x2), (3, .int x3)] [] := by
  intro H locs ls hR hS hl
  refine lv_iload_n C.x C.b dX3_keepsAll_4 rfl (lv_at hl 3 rfl) ?_
  refine lv_aload_n C.x C.b dX3_keepsAll_5 rfl (lv_at hl 0 rfl) ?_
  obtain ⟨fs_1, v_2, q1, q2, h⟩ := h
  refine z_get C hR q1 rfl (ci := 3) rfl in_X3 20 (by decide) q1657 (fun _ h => h) q2 dX3_keepsAll_6 ?_
  obtain ⟨h1, h2⟩ := h
  refine lv_icmp_ge (tgt := 27) C.x C.b dX3_keepsAll_9 (by decide) (fun c => ?_) (fun c => ?_)
  · have h := h1 c; clear h1 h2
    refine lv_iload_n C.x C.b dX3_keepsAll_27 rfl (lv_at hl 2 rfl) ?_
    exact z_iret C hQ dX3_keepsAll_28 h H locs ls hR hS hl
  · have h := h2 c; clear h1 h2
    refine lv_iload_n C.x C.b dX3_keepsAll_12 rfl (lv_at hl 2 rfl) ?_
    refine lv_aload_n C.x C.b dX3_keepsAll_13 rfl (lv_at hl 0 rfl) ?_
    refine lv_iload_n C.x C.b dX3_keepsAll_14 rfl (lv_at hl 3 rfl) ?_
    refine lv_iload_n C.x C.b dX3_keepsAll_15 rfl (lv_at hl 1 rfl) ?_
    refine z_callV C hR hS hl (n := 2) (C1 := RX3) (T := TX3) (N := 35) (ci := 3) (y := yX3_keeps) (bytes := cX3_keeps) (maxL := 7) (rt := (some .int)) (As := [.int x3, .int x1]) (rest := [.int x2]) h.1 rfl (lw_V q1785 q1787 qs32 q82 q1788) hdV_X3_keeps (by decide) rfl rfl (Nat.le_of_ble_eq_true rfl) dX3_keepsAll_16 h.2 (fun r g_3 hk_ => ?_) (fun x g1 h => z_out C hQ h)
    clear h; obtain ⟨v_4, rfl, h⟩ := hk_
    show GW X E 4 g_3 19 [(0, .ref a0), (1, .int x1), (2, .int x2), (3, .int x3)] [.int v_4, .int x2]
    intro H locs ls hR hS hl
    refine lv_iadd C.x C.b dX3_keepsAll_19 ?_
    refine lv_istore_n (lv' := [(2, .int (x2 + v_4)), (0, .ref a0), (1, .int x1), (3, .int x3)]) C.x C.b dX3_keepsAll_20 rfl hl (by decide) rfl (fun ls hl => ?_)
    refine lv_iinc (v := x3 + 1) (lv' := [(3, .int (x3 + 1)), (2, .int (x2 + v_4)), (0, .ref a0), (1, .int x1)]) C.x C.b dX3_keepsAll_21 hl (k := 3) rfl rfl (by decide) rfl (fun ls hl => ?_)
    refine lv_goto (tgt := 4) C.x C.b dX3_keepsAll_24 (by decide) ?_
    exact h H locs ls hR hS (lv_sub hl [2, 3, 1, 0] rfl)
set_option maxHeartbeats 4000000 in
theorem mX3_keepsAll {X : zX} {d : Nat} {g : zG} {K : Option Value → zG → Prop} {KX : String → zG → Prop} (hok : zOk X) (a0 : Nat) (x1 : Int32) (h : ∀ E : zM, zC X (d + 1) E RX3 cX3_keepsAll 4 (some .int) "keepsAll" → zQ X E K KX → GW X E 4 g 4 [(0, .ref a0), (1, .int x1), (2, .int 0), (3, .int 0)] []) : zCal X (d + 1) yX3_keepsAll wX3_keepsAll [.ref a0, .int x1] g K KX := by
  refine z_enter hok pn_X3 (Nat.le_of_ble_eq_true rfl) (fun E C hQ => ?_)
  have C : zC X (d + 1) E RX3 cX3_keepsAll 4 (some .int) "keepsAll" := C
  have h := h E C hQ
  show GW X E 4 g 0 [(0, .ref a0), (1, .int x1)] []
  intro H locs ls hR hS hl
  refine lv_iconst (v := 0) C.x C.b dX3_keepsAll_0 (by decide) ?_
  refine lv_istore_n (lv' := [(2, .int 0), (0, .ref a0), (1, .int x1)]) C.x C.b dX3_keepsAll_1 rfl hl (by decide) rfl (fun ls hl => ?_)
  refine lv_iconst (v := 0) C.x C.b dX3_keepsAll_2 (by decide) ?_
  refine lv_istore_n (lv' := [(3, .int 0), (2, .int 0), (0, .ref a0), (1, .int x1)]) C.x C.b dX3_keepsAll_3 rfl hl (by decide) rfl (fun ls hl => ?_)
  exact h H locs ls hR hS (lv_sub hl [2, 3, 1, 0] rfl)
theorem hdV_X3_canCome : yX3_canCome.cls = RX3 ∧ yX3_canCome.cls ≠ "java/lang/invoke/MethodHandle" ∧ yX3_canCome.cls ≠ "java/lang/invoke/VarHandle" ∧ (parseMethodDescriptor yX3_canCome.desc).map (fun d => d.parameters.length) = some 5 := by decide +kernel
theorem hdV_X3_comes : yX3_comes.cls = RX3 ∧ yX3_comes.cls ≠ "java/lang/invoke/MethodHandle" ∧ yX3_comes.cls ≠ "java/lang/invoke/VarHandle" ∧ (parseMethodDescriptor yX3_comes.desc).map (fun d => d.parameters.length) = some 5 := by decide +kernel
theorem hdV_X3_keepsAll : yX3_keepsAll.cls = RX3 ∧ yX3_keepsAll.cls ≠ "java/lang/invoke/MethodHandle" ∧ yX3_keepsAll.cls ≠ "java/lang/invoke/VarHandle" ∧ (parseMethodDescriptor yX3_keepsAll.desc).map (fun d => d.parameters.length) = some 1 := by decide +kernel
set_option maxHeartbeats 4000000 in
theorem mX3_event {X : zX} {d : Nat} {g : zG} {K : Option Value → zG → Prop} {KX : String → zG → Prop} (hok : zOk X) (a0 : Nat) (x1 : Int32) (x2 : Int32) (x3 : Int32) (x4 : Int32) (x5 : Int32) (h : zIs g 3 a0 ∧ zCal X d yX3_canCome wX3_canCome [.ref a0, .int x1, .int x2, .int x3, .int x4, .int x5] g (fun r g_1 => ∃ v_2 : Int32, r = some (.int v_2) ∧ zbo v_2 ∧ (¬ v_2 = 0 → zIs g_1 3 a0 ∧ zCal X d yX3_comes wX3_comes [.ref a0, .int x1, .int x2, .int x3, .int x4, .int x5] g_1 (fun r g_3 => r = none ∧ ∃ (fs_4 : List Value) (v_5 : Int32), zGo g_3 3 a0 = some fs_4 ∧ fs_4[3]? = some (.int v_5) ∧ zIs g_3 3 a0 ∧ zCal X d yX3_keepsAll wX3_keepsAll [.ref a0, .int (v_5 - 1)] g_3 (fun r g_6 => ∃ v_7 : Int32, r = some (.int v_7) ∧ ∃ (fs_8 : List Value) (v_9 : Int32), zGo g_6 3 a0 = some fs_8 ∧ fs_8[3]? = some (.int v_9) ∧ K (some (.int (v_9 - 1))) g_6) KX) KX) ∧ (v_2 = 0 → K (some (.int 0)) g_1)) KX) : zCal X (d + 1) yX3_event wX3_event [.ref a0, .int x1, .int x2, .int x3, .int x4, .int x5] g K KX := by
  refine z_enter hok pn_X3 (Nat.le_of_ble_eq_true rfl) (fun E C hQ => ?_)
  have C : zC X (d + 1) E RX3 cX3_event 7 (some .int) "event" := C
  show GW X E 7 g 0 [(0, .ref a0), (1, .int x1), (2, .int x2), (3, .int x3), (4, .int x4), (5, .int x5)] []
  intro H locs ls hR hS hl
  refine lv_aload_n C.x C.b dX3_event_0 rfl (lv_at hl 0 rfl) ?_
  refine lv_iload_n C.x C.b dX3_event_1 rfl (lv_at hl 1 rfl) ?_
  refine lv_iload_n C.x C.b dX3_event_2 rfl (lv_at hl 2 rfl) ?_
  refine lv_iload_n C.x C.b dX3_event_3 rfl (lv_at hl 3 rfl) ?_
  refine lv_iload C.x C.b dX3_event_4 (lv_at hl 4 rfl) ?_
  refine lv_iload C.x C.b dX3_event_6 (lv_at hl 5 rfl) ?_
  refine z_callV C hR hS hl (n := 5) (C1 := RX3) (T := TX3) (N := 35) (ci := 3) (y := yX3_canCome) (bytes := cX3_canCome) (maxL := 8) (rt := (some .boolean)) (As := [.int x1, .int x2, .int x3, .int x4, .int x5]) (rest := []) h.1 rfl (lw_V q1770 q1772 qs29 q82 q1773) hdV_X3_canCome (by decide) rfl rfl (Nat.le_of_ble_eq_true rfl) dX3_event_8 h.2 (fun r g_1 hk_ => ?_) (fun x g1 h => z_out C hQ h)
  clear h; obtain ⟨v_2, rfl, zb_, h⟩ := hk_
  show GW X E 7 g_1 11 [(0, .ref a0), (1, .int x1), (2, .int x2), (3, .int x3), (4, .int x4), (5, .int x5)] [.int v_2]
  intro H locs ls hR hS hl
  obtain ⟨h1, h2⟩ := h
  refine lv_if_ne (tgt := 16) C.x C.b dX3_event_11 (by decide) (fun c => ?_) (fun c => ?_)
  · have h := h1 c; clear h1 h2
    refine lv_aload_n C.x C.b dX3_event_16 rfl (lv_at hl 0 rfl) ?_
    refine lv_iload_n C.x C.b dX3_event_17 rfl (lv_at hl 1 rfl) ?_
    refine lv_iload_n C.x C.b dX3_event_18 rfl (lv_at hl 2 rfl) ?_
    refine lv_iload_n C.x C.b dX3_event_19 rfl (lv_at hl 3 rfl) ?_
    refine lv_iload C.x C.b dX3_event_20 (lv_at hl 4 rfl) ?_
    refine lv_iload C.x C.b dX3_event_22 (lv_at hl 5 rfl) ?_
    refine z_callV C hR hS hl (n := 5) (C1 := RX3) (T := TX3) (N := 35) (ci := 3) (y := yX3_comes) (bytes := cX3_comes) (maxL := 8) (rt := none) (As := [.int x1, .int x2, .int x3, .int x4, .int x5]) (rest := []) h.1 rfl (lw_V q1777 q1779 qs30 q82 q1780) hdV_X3_comes (by decide) rfl rfl (Nat.le_of_ble_eq_true rfl) dX3_event_24 h.2 (fun r g_3 hk_ => ?_) (fun x g1 h => z_out C hQ h)
    clear h; obtain ⟨rfl, h⟩ := hk_
    show GW X E 7 g_3 27 [(0, .ref a0), (1, .int x1), (2, .int x2), (3, .int x3), (4, .int x4), (5, .int x5)] []
    intro H locs ls hR hS hl
    refine lv_aload_n C.x C.b dX3_event_27 rfl (lv_at hl 0 rfl) ?_
    refine lv_aload_n C.x C.b dX3_event_28 rfl (lv_at hl 0 rfl) ?_
    obtain ⟨fs_4, v_5, q1, q2, h⟩ := h
    refine z_get C hR q1 rfl (ci := 3) rfl in_X3 3 (by decide) q1640 (fun _ h => h) q2 dX3_event_29 ?_
    refine lv_iconst (v := 1) C.x C.b dX3_event_32 (by decide) ?_
    refine lv_isub C.x C.b dX3_event_33 ?_
    refine z_callV C hR hS hl (n := 1) (C1 := RX3) (T := TX3) (N := 35) (ci := 3) (y := yX3_keepsAll) (bytes := cX3_keepsAll) (maxL := 4) (rt := (some .int)) (As := [.int (v_5 - 1)]) (rest := []) h.1 rfl (lw_V q1781 q1783 qs31 q82 q1784) hdV_X3_keepsAll (by decide) rfl rfl (Nat.le_of_ble_eq_true rfl) dX3_event_34 h.2 (fun r g_6 hk_ => ?_) (fun x g1 h => z_out C hQ h)
    clear h; obtain ⟨v_7, rfl, h⟩ := hk_
    show GW X E 7 g_6 37 [(0, .ref a0), (1, .int x1), (2, .int x2), (3, .int x3), (4, .int x4), (5, .int x5)] [.int v_7]
    intro H locs ls hR hS hl
    refine lv_istore (lv' := [(6, .int v_7), (0, .ref a0), (1, .int x1), (2, .int x2), (3, .int x3), (4, .int x4), (5, .int x5)]) C.x C.b dX3_event_37 hl (by decide) rfl (fun ls hl => ?_)
    refine lv_aload_n C.x C.b dX3_event_39 rfl (lv_at hl 1 rfl) ?_
    obtain ⟨fs_8, v_9, q1, q2, h⟩ := h
    refine z_get C hR q1 rfl (ci := 3) rfl in_X3 3 (by decide) q1640 (fun _ h => h) q2 dX3_event_40 ?_
    refine lv_iconst (v := 1) C.x C.b dX3_event_43 (by decide) ?_
    refine lv_isub C.x C.b dX3_event_44 ?_
    exact z_iret C hQ dX3_event_45 h H locs ls hR hS hl
  · have h := h2 c; clear h1 h2
    refine lv_iconst (v := 0) C.x C.b dX3_event_14 (by decide) ?_
    exact z_iret C hQ dX3_event_15 h H locs ls hR hS hl
set_option maxHeartbeats 4000000 in
theorem bX3_goesAway_12 {X : zX} {d : Nat} {E : zM} {K : Option Value → zG → Prop} {KX : String → zG → Prop} (C : zC X d E RX3 cX3_goesAway 4 none "goesAway") (hQ : zQ X E K KX) (g : zG) (a0 : Nat) (x1 : Int32) (x2 : Int32) (h : ∃ (fs_1 : List Value) (a_2 : Nat), zGo g 3 a0 = some fs_1 ∧ fs_1[12]? = some (.ref a_2) ∧ ∃ (n_3 : Nat) (f_4 : Nat → Int32), zGi g 12 a_2 = some (n_3, f_4) ∧ vp_in x2 n_3 ∧ ∀ v_5 : Int32, v_5 = f_4 x2.toNatClampNeg → ∃ (fs_6 : List Value) (v_7 : Int32), zGo g 3 a0 = some fs_6 ∧ fs_6[3]? = some (.int v_7) ∧ (v_5 = v_7 → GW X E 4 g 33 [(0, .ref a0), (1, .int x1), (3, .int x2)] []) ∧ (¬ v_5 = v_7 → GW X E 4 g 12 [(0, .ref a0), (1, .int x1), (2, .int (x2 + 1))] [])) : GW X E 4 g 12 [(0, .ref a0), (1, .int x1), (2, .int x2)] [] := by
  intro H locs ls hR hS hl
  refine lv_aload_n C.x C.b dX3_goesAway_12 rfl (lv_at hl 0 rfl) ?_
  obtain ⟨fs_1, a_2, q1, q2, h⟩ := h
  refine z_get C hR q1 rfl (ci := 3) rfl in_X3 12 (by decide) q1649 (fun _ h => h) q2 dX3_goesAway_13 ?_
  refine lv_iload_n C.x C.b dX3_goesAway_16 rfl (lv_at hl 2 rfl) ?_
  obtain ⟨n_3, f_4, q1, q2, h⟩ := h
  refine z_iald C hR q1 (by decide) q2 dX3_goesAway_17 ?_
  have h := h _ rfl
  generalize f_4 x2.toNatClampNeg = v_5 at h ⊢
  refine lv_aload_n C.x C.b dX3_goesAway_18 rfl (lv_at hl 0 rfl) ?_
  obtain ⟨fs_6, v_7, q1, q2, h⟩ := h
  refine z_get C hR q1 rfl (ci := 3) rfl in_X3 3 (by decide) q1640 (fun _ h => h) q2 dX3_goesAway_19 ?_
  obtain ⟨h1, h2⟩ := h
  refine lv_icmp_eq (tgt := 31) C.x C.b dX3_goesAway_22 (by decide) (fun c => ?_) (fun c => ?_)
  · have h := h1 c; clear h1 h2
    refine lv_iload_n C.x C.b dX3_goesAway_31 rfl (lv_at hl 2 rfl) ?_
    refine lv_istore_n (lv' := [(3, .int x2), (0, .ref a0), (1, .int x1), (2, .int x2)]) C.x C.b dX3_goesAway_32 rfl hl (by decide) rfl (fun ls hl => ?_)
    exact h H locs ls hR hS (lv_sub hl [1, 2, 0] rfl)
  · have h := h2 c; clear h1 h2
    refine lv_iinc (v := x2 + 1) (lv' := [(2, .int (x2 + 1)), (0, .ref a0), (1, .int x1)]) C.x C.b dX3_goesAway_25 hl (k := 2) rfl rfl (by decide) rfl (fun ls hl => ?_)
    refine lv_goto (tgt := 12) C.x C.b dX3_goesAway_28 (by decide) ?_
    exact h H locs ls hR hS (lv_sub hl [1, 2, 0] rfl)
set_option maxHeartbeats 4000000 in
theorem bX3_goesAway_33 {X : zX} {d : Nat} {E : zM} {K : Option Value → zG → Prop} {KX : String → zG → Prop} (C : zC X d E RX3 cX3_goesAway 4 none "goesAway") (hQ : zQ X E K KX) (g : zG) (a0 : Nat) (x1 : Int32) (x3 : Int32) (h : ∃ (fs_1 : List Value) (v_2 : Int32), zGo g 3 a0 = some fs_1 ∧ fs_1[3]? = some (.int v_2) ∧ (v_2 ≤ x3 → ∃ (fs_3 : List Value), zGo g 3 a0 = some fs_3 ∧ 5 < fs_3.length ∧ ∀ g_4 : zG, g_4 = zSo g 3 a0 (fs_3.set 5 (.int x1)) → K none g_4) ∧ (¬ v_2 ≤ x3 → ∃ (fs_5 : List Value) (a_6 : Nat), zGo g 3 a0 = some fs_5 ∧ fs_5[12]? = some (.ref a_6) ∧ ∃ (fs_7 : List Value) (a_8 : Nat), zGo g 3 a0 = some fs_7 ∧ fs_7[12]? = some (.ref a_8) ∧ ∃ (n_9 : Nat) (f_10 : Nat → Int32), zGi g 12 a_8 = some (n_9, f_10) ∧ vp_in (x3 + 1) n_9 ∧ ∀ v_11 : Int32, v_11 = f_10 (x3 + 1).toNatClampNeg → ∃ (n_12 : Nat) (f_13 : Nat → Int32), zGi g 12 a_6 = some (n_12, f_13) ∧ vp_in x3 n_12 ∧ ∀ g_14 : zG, g_14 = zSi g 12 a_6 n_12 (upd f_13 x3.toNatClampNeg v_11) → GW X E 4 g_14 33 [(0, .ref a0), (1, .int x1), (3, .int (x3 + 1))] [])) : GW X E 4 g 33 [(0, .ref a0), (1, .int x1), (3, .int x3)] [] := by
  intro H locs ls hR hS hl
  refine lv_iload_n C.x C.b dX3_goesAway_33 rfl (lv_at hl 2 rfl) ?_
  refine lv_aload_n C.x C.b dX3_goesAway_34 rfl (lv_at hl 0 rfl) ?_
  obtain ⟨fs_1, v_2, q1, q2, h⟩ := h
  refine z_get C hR q1 rfl (ci := 3) rfl in_X3 3 (by decide) q1640 (fun _ h => h) q2 dX3_goesAway_35 ?_
  obtain ⟨h1, h2⟩ := h
  refine lv_icmp_ge (tgt := 61) C.x C.b dX3_goesAway_38 (by decide) (fun c => ?_) (fun c => ?_)
  · have h := h1 c; clear h1 h2
    refine lv_aload_n C.x C.b dX3_goesAway_61 rfl (lv_at hl 0 rfl) ?_
    refine lv_iload_n C.x C.b dX3_goesAway_62 rfl (lv_at hl 1 rfl) ?_
    obtain ⟨fs_3, q1, q2, h⟩ := h
    refine z_put C hR hS q1 rfl (ci := 3) rfl in_X3 tyX3 tyX3_ok nmX3 5 (by decide) q1642 (fun _ h => h) rfl ⟨rfl, rfl⟩ q2 dX3_goesAway_63 (fun H locs hR hS => ?_)
    have h := h _ rfl
    generalize zSo g 3 a0 (fs_3.set 5 (.int x1)) = g_4 at h hR
    exact z_vret C hQ dX3_goesAway_66 h H locs ls hR hS hl
  · have h := h2 c; clear h1 h2
    refine lv_aload_n C.x C.b dX3_goesAway_41 rfl (lv_at hl 0 rfl) ?_
    obtain ⟨fs_5, a_6, q1, q2, h⟩ := h
    refine z_get C hR q1 rfl (ci := 3) rfl in_X3 12 (by decide) q1649 (fun _ h => h) q2 dX3_goesAway_42 ?_
    refine lv_iload_n C.x C.b dX3_goesAway_45 rfl (lv_at hl 2 rfl) ?_
    refine lv_aload_n C.x C.b dX3_goesAway_46 rfl (lv_at hl 0 rfl) ?_
    obtain ⟨fs_7, a_8, q1, q2, h⟩ := h
    refine z_get C hR q1 rfl (ci := 3) rfl in_X3 12 (by decide) q1649 (fun _ h => h) q2 dX3_goesAway_47 ?_
    refine lv_iload_n C.x C.b dX3_goesAway_50 rfl (lv_at hl 2 rfl) ?_
    refine lv_iconst (v := 1) C.x C.b dX3_goesAway_51 (by decide) ?_
    refine lv_iadd C.x C.b dX3_goesAway_52 ?_
    obtain ⟨n_9, f_10, q1, q2, h⟩ := h
    refine z_iald C hR q1 (by decide) q2 dX3_goesAway_53 ?_
    have h := h _ rfl
    generalize f_10 (x3 + 1).toNatClampNeg = v_11 at h ⊢
    obtain ⟨n_12, f_13, q1, q2, h⟩ := h
    refine z_iast C hR hS q1 (by decide) q2 dX3_goesAway_54 (fun H locs hR hS => ?_)
    have h := h _ rfl
    generalize zSi g 12 a_6 n_12 (upd f_13 x3.toNatClampNeg v_11) = g_14 at h hR
    refine lv_iinc (v := x3 + 1) (lv' := [(3, .int (x3 + 1)), (0, .ref a0), (1, .int x1)]) C.x C.b dX3_goesAway_55 hl (k := 2) rfl rfl (by decide) rfl (fun ls hl => ?_)
    refine lv_goto (tgt := 33) C.x C.b dX3_goesAway_58 (by decide) ?_
    exact h H locs ls hR hS (lv_sub hl [1, 2, 0] rfl)
set_option maxHeartbeats 4000000 in
theorem mX3_goesAway {X : zX} {d : Nat} {g : zG} {K : Option Value → zG → Prop} {KX : String → zG → Prop} (hok : zOk X) (a0 : Nat) (x1 : Int32) (h : ∀ E : zM, zC X d E RX3 cX3_goesAway 4 none "goesAway" → zQ X E K KX → ∃ (fs_1 : List Value) (v_2 : Int32), zGo g 3 a0 = some fs_1 ∧ fs_1[3]? = some (.int v_2) ∧ ∃ (fs_3 : List Value), zGo g 3 a0 = some fs_3 ∧ 3 < fs_3.length ∧ ∀ g_4 : zG, g_4 = zSo g 3 a0 (fs_3.set 3 (.int (v_2 - 1))) → GW X E 4 g_4 12 [(0, .ref a0), (1, .int x1), (2, .int 0)] []) : zCal X d yX3_goesAway wX3_goesAway [.ref a0, .int x1] g K KX := by
  refine z_enter hok pn_X3 (Nat.le_of_ble_eq_true rfl) (fun E C hQ => ?_)
  have C : zC X d E RX3 cX3_goesAway 4 none "goesAway" := C
  have h := h E C hQ
  show GW X E 4 g 0 [(0, .ref a0), (1, .int x1)] []
  intro H locs ls hR hS hl
  refine lv_aload_n C.x C.b dX3_goesAway_0 rfl (lv_at hl 0 rfl) ?_
  refine lv_dup C.x C.b dX3_goesAway_1 rfl ?_
  obtain ⟨fs_1, v_2, q1, q2, h⟩ := h
  refine z_get C hR q1 rfl (ci := 3) rfl in_X3 3 (by decide) q1640 (fun _ h => h) q2 dX3_goesAway_2 ?_
  refine lv_iconst (v := 1) C.x C.b dX3_goesAway_5 (by decide) ?_
  refine lv_isub C.x C.b dX3_goesAway_6 ?_
  obtain ⟨fs_3, q1, q2, h⟩ := h
  refine z_put C hR hS q1 rfl (ci := 3) rfl in_X3 tyX3 tyX3_ok nmX3 3 (by decide) q1640 (fun _ h => h) rfl ⟨rfl, rfl⟩ q2 dX3_goesAway_7 (fun H locs hR hS => ?_)
  have h := h _ rfl
  generalize zSo g 3 a0 (fs_3.set 3 (.int (v_2 - 1))) = g_4 at h hR
  refine lv_iconst (v := 0) C.x C.b dX3_goesAway_10 (by decide) ?_
  refine lv_istore_n (lv' := [(2, .int 0), (0, .ref a0), (1, .int x1)]) C.x C.b dX3_goesAway_11 rfl hl (by decide) rfl (fun ls hl => ?_)
  exact h H locs ls hR hS (lv_sub hl [1, 2, 0] rfl)
set_option maxHeartbeats 4000000 in
theorem bX3_isGuarded_4 {X : zX} {d : Nat} {E : zM} {K : Option Value → zG → Prop} {KX : String → zG → Prop} (C : zC X (d + 1) E RX3 cX3_isGuarded 4 (some .boolean) "isGuarded") (hQ : zQ X E K KX) (g : zG) (a0 : Nat) (x1 : Int32) (x2 : Int32) (h : ∃ (fs_1 : List Value) (v_2 : Int32), zGo g 3 a0 = some fs_1 ∧ fs_1[20]? = some (.int v_2) ∧ (v_2 ≤ x2 → zbo x1 ∧ K (some (.int x1)) g) ∧ (¬ v_2 ≤ x2 → ∃ (fs_3 : List Value) (a_4 : Nat), zGo g 3 a0 = some fs_3 ∧ fs_3[22]? = some (.ref a_4) ∧ ∃ (n_5 : Nat) (f_6 : Nat → Int32), zGi g 122 a_4 = some (n_5, f_6) ∧ vp_in x2 n_5 ∧ ∀ v_7 : Int32, v_7 = f_6 x2.toNatClampNeg → (v_7 = 0 → GW X E 4 g 4 [(0, .ref a0), (1, .int x1), (2, .int (x2 + 1))] []) ∧ (¬ v_7 = 0 → zIs g 3 a0 ∧ zCal X d yX3_lines wX3_lines [.ref a0] g (fun r g_8 => r = none ∧ zIs g_8 3 a0 ∧ zCal X d yX3_idsOf wX3_idsOf [.ref a0] g_8 (fun r g_9 => ∃ v_10 : Int32, r = some (.int v_10) ∧ ∃ (fs_11 : List Value), zGo g_9 3 a0 = some fs_11 ∧ 31 < fs_11.length ∧ ∀ g_12 : zG, g_12 = zSo g_9 3 a0 (fs_11.set 31 (.int v_10)) → zIs g_12 3 a0 ∧ zCal X d yX3_finds wX3_finds [.ref a0, .int x2] g_12 (fun r g_13 => r = none ∧ GW X E 4 g_13 40 [(0, .ref a0), (1, .int x1), (2, .int x2), (3, .int 0)] []) KX) KX) KX))) : GW X E 4 g 4 [(0, .ref a0), (1, .int x1), (2, .int x2)] [] := by
  intro H locs ls hR hS hl
  refine lv_iload_n C.x C.b dX3_isGuarded_4 rfl (lv_at hl 2 rfl) ?_
  refine lv_aload_n C.x C.b dX3_isGuarded_5 rfl (lv_at hl 0 rfl) ?_
  obtain ⟨fs_1, v_2, q1, q2, h⟩ := h
  refine z_get C hR q1 rfl (ci := 3) rfl in_X3 20 (by decide) q1657 (fun _ h => h) q2 dX3_isGuarded_6 ?_
  obtain ⟨h1, h2⟩ := h
  refine lv_icmp_ge (tgt := 103) C.x C.b dX3_isGuarded_9 (by decide) (fun c => ?_) (fun c => ?_)
  · have h := h1 c; clear h1 h2
    refine lv_iload_n C.x C.b dX3_isGuarded_103 rfl (lv_at hl 1 rfl) ?_
    exact z_zret C hQ (zbo_n h.1) dX3_isGuarded_104 h.2 H locs ls hR hS hl
  · have h := h2 c; clear h1 h2
    refine lv_aload_n C.x C.b dX3_isGuarded_12 rfl (lv_at hl 0 rfl) ?_
    obtain ⟨fs_3, a_4, q1, q2, h⟩ := h
    refine z_get C hR q1 rfl (ci := 3) rfl in_X3 22 (by decide) q1659 (fun _ h => h) q2 dX3_isGuarded_13 ?_
    refine lv_iload_n C.x C.b dX3_isGuarded_16 rfl (lv_at hl 2 rfl) ?_
    obtain ⟨n_5, f_6, q1, q2, h⟩ := h
    refine z_zald C hR q1 (by decide) q2 dX3_isGuarded_17 ?_
    have h := h _ rfl
    generalize f_6 x2.toNatClampNeg = v_7 at h ⊢
    obtain ⟨h1, h2⟩ := h
    refine lv_if_eq (tgt := 97) C.x C.b dX3_isGuarded_18 (by decide) (fun c => ?_) (fun c => ?_)
    · have h := h1 c; clear h1 h2
      refine lv_iinc (v := x2 + 1) (lv' := [(2, .int (x2 + 1)), (0, .ref a0), (1, .int x1)]) C.x C.b dX3_isGuarded_97 hl (k := 2) rfl rfl (by decide) rfl (fun ls hl => ?_)
      refine lv_goto (tgt := 4) C.x C.b dX3_isGuarded_100 (by decide) ?_
      exact h H locs ls hR hS (lv_sub hl [1, 2, 0] rfl)
    · have h := h2 c; clear h1 h2
      refine lv_aload_n C.x C.b dX3_isGuarded_21 rfl (lv_at hl 0 rfl) ?_
      refine z_callV C hR hS hl (n := 0) (C1 := RX3) (T := TX3) (N := 35) (ci := 3) (y := yX3_lines) (bytes := cX3_lines) (maxL := 2) (rt := none) (As := []) (rest := []) h.1 rfl (lw_V q1789 q1791 qs33 q82 q1792) hdV_X3_lines (by decide) rfl rfl (Nat.le_of_ble_eq_true rfl) dX3_isGuarded_22 h.2 (fun r g_8 hk_ => ?_) (fun x g1 h => z_out C hQ h)
      clear h; obtain ⟨rfl, h⟩ := hk_
      show GW X E 4 g_8 25 [(0, .ref a0), (1, .int x1), (2, .int x2)] []
      intro H locs ls hR hS hl
      refine lv_aload_n C.x C.b dX3_isGuarded_25 rfl (lv_at hl 0 rfl) ?_
      refine lv_aload_n C.x C.b dX3_isGuarded_26 rfl (lv_at hl 0 rfl) ?_
      refine z_callV C hR hS hl (n := 0) (C1 := RX3) (T := TX3) (N := 35) (ci := 3) (y := yX3_idsOf) (bytes := cX3_idsOf) (maxL := 3) (rt := (some .int)) (As := []) (rest := [.ref a0]) h.1 rfl (lw_V q1793 q1795 qs34 q82 q1796) hdV_X3_idsOf (by decide) rfl rfl (Nat.le_of_ble_eq_true rfl) dX3_isGuarded_27 h.2 (fun r g_9 hk_ => ?_) (fun x g1 h => z_out C hQ h)
      clear h; obtain ⟨v_10, rfl, h⟩ := hk_
      show GW X E 4 g_9 30 [(0, .ref a0), (1, .int x1), (2, .int x2)] [.int v_10, .ref a0]
      intro H locs ls hR hS hl
      obtain ⟨fs_11, q1, q2, h⟩ := h
      refine z_put C hR hS q1 rfl (ci := 3) rfl in_X3 tyX3 tyX3_ok nmX3 31 (by decide) q1668 (fun _ h => h) rfl ⟨rfl, rfl⟩ q2 dX3_isGuarded_30 (fun H locs hR hS => ?_)
      have h := h _ rfl
      generalize zSo g_9 3 a0 (fs_11.set 31 (.int v_10)) = g_12 at h hR
      refine lv_aload_n C.x C.b dX3_isGuarded_33 rfl (lv_at hl 0 rfl) ?_
      refine lv_iload_n C.x C.b dX3_isGuarded_34 rfl (lv_at hl 2 rfl) ?_
      refine z_callV C hR hS hl (n := 1) (C1 := RX3) (T := TX3) (N := 35) (ci := 3) (y := yX3_finds) (bytes := cX3_finds) (maxL := 7) (rt := none) (As := [.int x2]) (rest := []) h.1 rfl (lw_V q1797 q1799 qs35 q82 q1800) hdV_X3_finds (by decide) rfl rfl (Nat.le_of_ble_eq_true rfl) dX3_isGuarded_35 h.2 (fun r g_13 hk_ => ?_) (fun x g1 h => z_out C hQ h)
      clear h; obtain ⟨rfl, h⟩ := hk_
      show GW X E 4 g_13 38 [(0, .ref a0), (1, .int x1), (2, .int x2)] []
      intro H locs ls hR hS hl
      refine lv_iconst (v := 0) C.x C.b dX3_isGuarded_38 (by decide) ?_
      refine lv_istore_n (lv' := [(3, .int 0), (0, .ref a0), (1, .int x1), (2, .int x2)]) C.x C.b dX3_isGuarded_39 rfl hl (by decide) rfl (fun ls hl => ?_)
      exact h H locs ls hR hS (lv_sub hl [1, 2, 3, 0] rfl)
set_option maxHeartbeats 4000000 in
theorem bX3_isGuarded_40 {X : zX} {d : Nat} {E : zM} {K : Option Value → zG → Prop} {KX : String → zG → Prop} (C : zC X (d + 1) E RX3 cX3_isGuarded 4 (some .boolean) "isGuarded") (hQ : zQ X E K KX) (g : zG) (a0 : Nat) (x1 : Int32) (x2 : Int32) (x3 : Int32) (h : ∃ (fs_1 : List Value) (v_2 : Int32), zGo g 3 a0 = some fs_1 ∧ fs_1[3]? = some (.int v_2) ∧ (v_2 ≤ x3 → GW X E 4 g 4 [(0, .ref a0), (1, .int x1), (2, .int (x2 + 1))] []) ∧ (¬ v_2 ≤ x3 → (¬ x1 = 0 → GW X E 4 g 40 [(0, .ref a0), (1, .int 1), (2, .int x2), (3, .int (x3 + 1))] []) ∧ (x1 = 0 → ∃ (fs_3 : List Value) (a_4 : Nat), zGo g 3 a0 = some fs_3 ∧ fs_3[33]? = some (.ref a_4) ∧ ∃ (n_5 : Nat) (f_6 : Nat → Int32), zGi g 33 a_4 = some (n_5, f_6) ∧ vp_in x3 n_5 ∧ ∀ v_7 : Int32, v_7 = f_6 x3.toNatClampNeg → (¬ v_7 = 0 → GW X E 4 g 40 [(0, .ref a0), (1, .int 0), (2, .int x2), (3, .int (x3 + 1))] []) ∧ (v_7 = 0 → ∃ (fs_8 : List Value) (v_9 : Int32), zGo g 3 a0 = some fs_8 ∧ fs_8[3]? = some (.int v_9) ∧ (x3 = (v_9 - 1) → GW X E 4 g 40 [(0, .ref a0), (1, .int 1), (2, .int x2), (3, .int (x3 + 1))] []) ∧ (¬ x3 = (v_9 - 1) → ∃ (fs_10 : List Value) (a_11 : Nat), zGo g 3 a0 = some fs_10 ∧ fs_10[25]? = some (.ref a_11) ∧ ∃ (n_12 : Nat) (f_13 : Nat → Int32), zGi g 25 a_11 = some (n_12, f_13) ∧ vp_in ((80 * x2) + x3) n_12 ∧ ∀ v_14 : Int32, v_14 = f_13 ((80 * x2) + x3).toNatClampNeg → (v_14 = 0 → GW X E 4 g 40 [(0, .ref a0), (1, .int 0), (2, .int x2), (3, .int (x3 + 1))] []) ∧ (¬ v_14 = 0 → GW X E 4 g 40 [(0, .ref a0), (1, .int 1), (2, .int x2), (3, .int (x3 + 1))] [])))))) : GW X E 4 g 40 [(0, .ref a0), (1, .int x1), (2, .int x2), (3, .int x3)] [] := by
  intro H locs ls hR hS hl
  refine lv_iload_n C.x C.b dX3_isGuarded_40 rfl (lv_at hl 3 rfl) ?_
  refine lv_aload_n C.x C.b dX3_isGuarded_41 rfl (lv_at hl 0 rfl) ?_
  obtain ⟨fs_1, v_2, q1, q2, h⟩ := h
  refine z_get C hR q1 rfl (ci := 3) rfl in_X3 3 (by decide) q1640 (fun _ h => h) q2 dX3_isGuarded_42 ?_
  obtain ⟨h1, h2⟩ := h
  refine lv_icmp_ge (tgt := 97) C.x C.b dX3_isGuarded_45 (by decide) (fun c => ?_) (fun c => ?_)
  · have h := h1 c; clear h1 h2
    refine lv_iinc (v := x2 + 1) (lv' := [(2, .int (x2 + 1)), (0, .ref a0), (1, .int x1), (3, .int x3)]) C.x C.b dX3_isGuarded_97 hl (k := 2) rfl rfl (by decide) rfl (fun ls hl => ?_)
    refine lv_goto (tgt := 4) C.x C.b dX3_isGuarded_100 (by decide) ?_
    exact h H locs ls hR hS (lv_sub hl [1, 2, 0] rfl)
  · have h := h2 c; clear h1 h2
    refine lv_iload_n C.x C.b dX3_isGuarded_48 rfl (lv_at hl 1 rfl) ?_
    obtain ⟨h1, h2⟩ := h
    refine lv_if_ne (tgt := 85) C.x C.b dX3_isGuarded_49 (by decide) (fun c => ?_) (fun c => ?_)
    · have h := h1 c; clear h1 h2
      refine lv_iconst (v := 1) C.x C.b dX3_isGuarded_85 (by decide) ?_
      refine lv_goto (tgt := 90) C.x C.b dX3_isGuarded_86 (by decide) ?_
      refine lv_istore_n (lv' := [(1, .int 1), (0, .ref a0), (2, .int x2), (3, .int x3)]) C.x C.b dX3_isGuarded_90 rfl hl (by decide) rfl (fun ls hl => ?_)
      refine lv_iinc (v := x3 + 1) (lv' := [(3, .int (x3 + 1)), (1, .int 1), (0, .ref a0), (2, .int x2)]) C.x C.b dX3_isGuarded_91 hl (k := 3) rfl rfl (by decide) rfl (fun ls hl => ?_)
      refine lv_goto (tgt := 40) C.x C.b dX3_isGuarded_94 (by decide) ?_
      exact h H locs ls hR hS (lv_sub hl [2, 1, 3, 0] rfl)
    · have h := h2 c; clear h1 h2
      refine lv_aload_n C.x C.b dX3_isGuarded_52 rfl (lv_at hl 0 rfl) ?_
      obtain ⟨fs_3, a_4, q1, q2, h⟩ := h
      refine z_get C hR q1 rfl (ci := 3) rfl in_X3 33 (by decide) q1670 (fun _ h => h) q2 dX3_isGuarded_53 ?_
      refine lv_iload_n C.x C.b dX3_isGuarded_56 rfl (lv_at hl 3 rfl) ?_
      obtain ⟨n_5, f_6, q1, q2, h⟩ := h
      refine z_iald C hR q1 (by decide) q2 dX3_isGuarded_57 ?_
      have h := h _ rfl
      generalize f_6 x3.toNatClampNeg = v_7 at h ⊢
      obtain ⟨h1, h2⟩ := h
      refine lv_if_ne (tgt := 89) C.x C.b dX3_isGuarded_58 (by decide) (fun c => ?_) (fun c => ?_)
      · have h := h1 c; clear h1 h2
        refine lv_iconst (v := 0) C.x C.b dX3_isGuarded_89 (by decide) ?_
        refine lv_istore_n (lv' := [(1, .int 0), (0, .ref a0), (2, .int x2), (3, .int x3)]) C.x C.b dX3_isGuarded_90 rfl hl (by decide) rfl (fun ls hl => ?_)
        refine lv_iinc (v := x3 + 1) (lv' := [(3, .int (x3 + 1)), (1, .int 0), (0, .ref a0), (2, .int x2)]) C.x C.b dX3_isGuarded_91 hl (k := 3) rfl rfl (by decide) rfl (fun ls hl => ?_)
        refine lv_goto (tgt := 40) C.x C.b dX3_isGuarded_94 (by decide) ?_
        exact h H locs ls hR hS (lv_sub hl [2, 1, 3, 0] rfl)
      · have h := h2 c; clear h1 h2
        refine lv_iload_n C.x C.b dX3_isGuarded_61 rfl (lv_at hl 3 rfl) ?_
        refine lv_aload_n C.x C.b dX3_isGuarded_62 rfl (lv_at hl 0 rfl) ?_
        obtain ⟨fs_8, v_9, q1, q2, h⟩ := h
        refine z_get C hR q1 rfl (ci := 3) rfl in_X3 3 (by decide) q1640 (fun _ h => h) q2 dX3_isGuarded_63 ?_
        refine lv_iconst (v := 1) C.x C.b dX3_isGuarded_66 (by decide) ?_
        refine lv_isub C.x C.b dX3_isGuarded_67 ?_
        obtain ⟨h1, h2⟩ := h
        refine lv_icmp_eq (tgt := 85) C.x C.b dX3_isGuarded_68 (by decide) (fun c => ?_) (fun c => ?_)
        · have h := h1 c; clear h1 h2
          refine lv_iconst (v := 1) C.x C.b dX3_isGuarded_85 (by decide) ?_
          refine lv_goto (tgt := 90) C.x C.b dX3_isGuarded_86 (by decide) ?_
          refine lv_istore_n (lv' := [(1, .int 1), (0, .ref a0), (2, .int x2), (3, .int x3)]) C.x C.b dX3_isGuarded_90 rfl hl (by decide) rfl (fun ls hl => ?_)
          refine lv_iinc (v := x3 + 1) (lv' := [(3, .int (x3 + 1)), (1, .int 1), (0, .ref a0), (2, .int x2)]) C.x C.b dX3_isGuarded_91 hl (k := 3) rfl rfl (by decide) rfl (fun ls hl => ?_)
          refine lv_goto (tgt := 40) C.x C.b dX3_isGuarded_94 (by decide) ?_
          exact h H locs ls hR hS (lv_sub hl [2, 1, 3, 0] rfl)
        · have h := h2 c; clear h1 h2
          refine lv_aload_n C.x C.b dX3_isGuarded_71 rfl (lv_at hl 0 rfl) ?_
          obtain ⟨fs_10, a_11, q1, q2, h⟩ := h
          refine z_get C hR q1 rfl (ci := 3) rfl in_X3 25 (by decide) q1662 (fun _ h => h) q2 dX3_isGuarded_72 ?_
          refine lv_bipush (v := 80) C.x C.b dX3_isGuarded_75 (by decide) ?_
          refine lv_iload_n C.x C.b dX3_isGuarded_77 rfl (lv_at hl 2 rfl) ?_
          refine lv_imul C.x C.b dX3_isGuarded_78 ?_
          refine lv_iload_n C.x C.b dX3_isGuarded_79 rfl (lv_at hl 3 rfl) ?_
          refine lv_iadd C.x C.b dX3_isGuarded_80 ?_
          obtain ⟨n_12, f_13, q1, q2, h⟩ := h
          refine z_iald C hR q1 (by decide) q2 dX3_isGuarded_81 ?_
          have h := h _ rfl
          generalize f_13 ((80 * x2) + x3).toNatClampNeg = v_14 at h ⊢
          obtain ⟨h1, h2⟩ := h
          refine lv_if_eq (tgt := 89) C.x C.b dX3_isGuarded_82 (by decide) (fun c => ?_) (fun c => ?_)
          · have h := h1 c; clear h1 h2
            refine lv_iconst (v := 0) C.x C.b dX3_isGuarded_89 (by decide) ?_
            refine lv_istore_n (lv' := [(1, .int 0), (0, .ref a0), (2, .int x2), (3, .int x3)]) C.x C.b dX3_isGuarded_90 rfl hl (by decide) rfl (fun ls hl => ?_)
            refine lv_iinc (v := x3 + 1) (lv' := [(3, .int (x3 + 1)), (1, .int 0), (0, .ref a0), (2, .int x2)]) C.x C.b dX3_isGuarded_91 hl (k := 3) rfl rfl (by decide) rfl (fun ls hl => ?_)
            refine lv_goto (tgt := 40) C.x C.b dX3_isGuarded_94 (by decide) ?_
            exact h H locs ls hR hS (lv_sub hl [2, 1, 3, 0] rfl)
          · have h := h2 c; clear h1 h2
            refine lv_iconst (v := 1) C.x C.b dX3_isGuarded_85 (by decide) ?_
            refine lv_goto (tgt := 90) C.x C.b dX3_isGuarded_86 (by decide) ?_
            refine lv_istore_n (lv' := [(1, .int 1), (0, .ref a0), (2, .int x2), (3, .int x3)]) C.x C.b dX3_isGuarded_90 rfl hl (by decide) rfl (fun ls hl => ?_)
            refine lv_iinc (v := x3 + 1) (lv' := [(3, .int (x3 + 1)), (1, .int 1), (0, .ref a0), (2, .int x2)]) C.x C.b dX3_isGuarded_91 hl (k := 3) rfl rfl (by decide) rfl (fun ls hl => ?_)
            refine lv_goto (tgt := 40) C.x C.b dX3_isGuarded_94 (by decide) ?_
            exact h H locs ls hR hS (lv_sub hl [2, 1, 3, 0] rfl)
set_option maxHeartbeats 4000000 in
theorem mX3_isGuarded {X : zX} {d : Nat} {g : zG} {K : Option Value → zG → Prop} {KX : String → zG → Prop} (hok : zOk X) (a0 : Nat) (h : ∀ E : zM, zC X (d + 1) E RX3 cX3_isGuarded 4 (some .boolean) "isGuarded" → zQ X E K KX → GW X E 4 g 4 [(0, .ref a0), (1, .int 0), (2, .int 0)] []) : zCal X (d + 1) yX3_isGuarded wX3_isGuarded [.ref a0] g K KX := by
  refine z_enter hok pn_X3 (Nat.le_of_ble_eq_true rfl) (fun E C hQ => ?_)
  have C : zC X (d + 1) E RX3 cX3_isGuarded 4 (some .boolean) "isGuarded" := C
  have h := h E C hQ
  show GW X E 4 g 0 [(0, .ref a0)] []
  intro H locs ls hR hS hl
  refine lv_iconst (v := 0) C.x C.b dX3_isGuarded_0 (by decide) ?_
  refine lv_istore_n (lv' := [(1, .int 0), (0, .ref a0)]) C.x C.b dX3_isGuarded_1 rfl hl (by decide) rfl (fun ls hl => ?_)
  refine lv_iconst (v := 0) C.x C.b dX3_isGuarded_2 (by decide) ?_
  refine lv_istore_n (lv' := [(2, .int 0), (1, .int 0), (0, .ref a0)]) C.x C.b dX3_isGuarded_3 rfl hl (by decide) rfl (fun ls hl => ?_)
  exact h H locs ls hR hS (lv_sub hl [2, 1, 0] rfl)
theorem hdV_X3_goesAway : yX3_goesAway.cls = RX3 ∧ yX3_goesAway.cls ≠ "java/lang/invoke/MethodHandle" ∧ yX3_goesAway.cls ≠ "java/lang/invoke/VarHandle" ∧ (parseMethodDescriptor yX3_goesAway.desc).map (fun d => d.parameters.length) = some 1 := by decide +kernel
theorem hdV_X3_isGuarded : yX3_isGuarded.cls = RX3 ∧ yX3_isGuarded.cls ≠ "java/lang/invoke/MethodHandle" ∧ yX3_isGuarded.cls ≠ "java/lang/invoke/VarHandle" ∧ (parseMethodDescriptor yX3_isGuarded.desc).map (fun d => d.parameters.length) = some 0 := by decide +kernel
set_option maxHeartbeats 4000000 in
theorem mX3_offer {X : zX} {d : Nat} {g : zG} {K : Option Value → zG → Prop} {KX : String → zG → Prop} (hok : zOk X) (a0 : Nat) (x1 : Int32) (x2 : Int32) (x3 : Int32) (x4 : Int32) (x5 : Int32) (h : zIs g 3 a0 ∧ zCal X d yX3_canCome wX3_canCome [.ref a0, .int x1, .int x2, .int x3, .int x4, .int x5] g (fun r g_1 => ∃ v_2 : Int32, r = some (.int v_2) ∧ zbo v_2 ∧ (¬ v_2 = 0 → ∃ (fs_3 : List Value) (v_4 : Int32), zGo g_1 3 a0 = some fs_3 ∧ fs_3[5]? = some (.int v_4) ∧ zIs g_1 3 a0 ∧ zCal X d yX3_comes wX3_comes [.ref a0, .int x1, .int x2, .int x3, .int x4, .int x5] g_1 (fun r g_5 => r = none ∧ zIs g_5 3 a0 ∧ zCal X d yX3_isGuarded wX3_isGuarded [.ref a0] g_5 (fun r g_6 => ∃ v_7 : Int32, r = some (.int v_7) ∧ zbo v_7 ∧ (v_7 = 0 → ∃ (fs_8 : List Value) (v_9 : Int32), zGo g_6 3 a0 = some fs_8 ∧ fs_8[3]? = some (.int v_9) ∧ zIs g_6 3 a0 ∧ zCal X d yX3_keepsAll wX3_keepsAll [.ref a0, .int (v_9 - 1)] g_6 (fun r g_10 => ∃ v_11 : Int32, r = some (.int v_11) ∧ ∃ (fs_12 : List Value) (v_13 : Int32), zGo g_10 3 a0 = some fs_12 ∧ fs_12[3]? = some (.int v_13) ∧ K (some (.int (v_13 - 1))) g_10) KX) ∧ (¬ v_7 = 0 → zIs g_6 3 a0 ∧ zCal X d yX3_goesAway wX3_goesAway [.ref a0, .int v_4] g_6 (fun r g_14 => r = none ∧ ∃ (fs_15 : List Value) (v_16 : Int32), zGo g_14 3 a0 = some fs_15 ∧ fs_15[4]? = some (.int v_16) ∧ ∃ (fs_17 : List Value), zGo g_14 3 a0 = some fs_17 ∧ 4 < fs_17.length ∧ ∀ g_18 : zG, g_18 = zSo g_14 3 a0 (fs_17.set 4 (.int (v_16 + 1))) → K (some (.int (-1))) g_18) KX)) KX) KX) ∧ (v_2 = 0 → K (some (.int 0)) g_1)) KX) : zCal X (d + 1) yX3_offer wX3_offer [.ref a0, .int x1, .int x2, .int x3, .int x4, .int x5] g K KX := by
  refine z_enter hok pn_X3 (Nat.le_of_ble_eq_true rfl) (fun E C hQ => ?_)
  have C : zC X (d + 1) E RX3 cX3_offer 8 (some .int) "offer" := C
  show GW X E 8 g 0 [(0, .ref a0), (1, .int x1), (2, .int x2), (3, .int x3), (4, .int x4), (5, .int x5)] []
  intro H locs ls hR hS hl
  refine lv_aload_n C.x C.b dX3_offer_0 rfl (lv_at hl 0 rfl) ?_
  refine lv_iload_n C.x C.b dX3_offer_1 rfl (lv_at hl 1 rfl) ?_
  refine lv_iload_n C.x C.b dX3_offer_2 rfl (lv_at hl 2 rfl) ?_
  refine lv_iload_n C.x C.b dX3_offer_3 rfl (lv_at hl 3 rfl) ?_
  refine lv_iload C.x C.b dX3_offer_4 (lv_at hl 4 rfl) ?_
  refine lv_iload C.x C.b dX3_offer_6 (lv_at hl 5 rfl) ?_
  refine z_callV C hR hS hl (n := 5) (C1 := RX3) (T := TX3) (N := 35) (ci := 3) (y := yX3_canCome) (bytes := cX3_canCome) (maxL := 8) (rt := (some .boolean)) (As := [.int x1, .int x2, .int x3, .int x4, .int x5]) (rest := []) h.1 rfl (lw_V q1770 q1772 qs29 q82 q1773) hdV_X3_canCome (by decide) rfl rfl (Nat.le_of_ble_eq_true rfl) dX3_offer_8 h.2 (fun r g_1 hk_ => ?_) (fun x g1 h => z_out C hQ h)
  clear h; obtain ⟨v_2, rfl, zb_, h⟩ := hk_
  show GW X E 8 g_1 11 [(0, .ref a0), (1, .int x1), (2, .int x2), (3, .int x3), (4, .int x4), (5, .int x5)] [.int v_2]
  intro H locs ls hR hS hl
  obtain ⟨h1, h2⟩ := h
  refine lv_if_ne (tgt := 16) C.x C.b dX3_offer_11 (by decide) (fun c => ?_) (fun c => ?_)
  · have h := h1 c; clear h1 h2
    refine lv_aload_n C.x C.b dX3_offer_16 rfl (lv_at hl 0 rfl) ?_
    obtain ⟨fs_3, v_4, q1, q2, h⟩ := h
    refine z_get C hR q1 rfl (ci := 3) rfl in_X3 5 (by decide) q1642 (fun _ h => h) q2 dX3_offer_17 ?_
    refine lv_istore (lv' := [(6, .int v_4), (0, .ref a0), (1, .int x1), (2, .int x2), (3, .int x3), (4, .int x4), (5, .int x5)]) C.x C.b dX3_offer_20 hl (by decide) rfl (fun ls hl => ?_)
    refine lv_aload_n C.x C.b dX3_offer_22 rfl (lv_at hl 1 rfl) ?_
    refine lv_iload_n C.x C.b dX3_offer_23 rfl (lv_at hl 2 rfl) ?_
    refine lv_iload_n C.x C.b dX3_offer_24 rfl (lv_at hl 3 rfl) ?_
    refine lv_iload_n C.x C.b dX3_offer_25 rfl (lv_at hl 4 rfl) ?_
    refine lv_iload C.x C.b dX3_offer_26 (lv_at hl 5 rfl) ?_
    refine lv_iload C.x C.b dX3_offer_28 (lv_at hl 6 rfl) ?_
    refine z_callV C hR hS hl (n := 5) (C1 := RX3) (T := TX3) (N := 35) (ci := 3) (y := yX3_comes) (bytes := cX3_comes) (maxL := 8) (rt := none) (As := [.int x1, .int x2, .int x3, .int x4, .int x5]) (rest := []) h.1 rfl (lw_V q1777 q1779 qs30 q82 q1780) hdV_X3_comes (by decide) rfl rfl (Nat.le_of_ble_eq_true rfl) dX3_offer_30 h.2 (fun r g_5 hk_ => ?_) (fun x g1 h => z_out C hQ h)
    clear h; obtain ⟨rfl, h⟩ := hk_
    show GW X E 8 g_5 33 [(6, .int v_4), (0, .ref a0), (1, .int x1), (2, .int x2), (3, .int x3), (4, .int x4), (5, .int x5)] []
    intro H locs ls hR hS hl
    refine lv_aload_n C.x C.b dX3_offer_33 rfl (lv_at hl 1 rfl) ?_
    refine z_callV C hR hS hl (n := 0) (C1 := RX3) (T := TX3) (N := 35) (ci := 3) (y := yX3_isGuarded) (bytes := cX3_isGuarded) (maxL := 4) (rt := (some .boolean)) (As := []) (rest := []) h.1 rfl (lw_V q1861 q1863 qs47 q82 q1864) hdV_X3_isGuarded (by decide) rfl rfl (Nat.le_of_ble_eq_true rfl) dX3_offer_34 h.2 (fun r g_6 hk_ => ?_) (fun x g1 h => z_out C hQ h)
    clear h; obtain ⟨v_7, rfl, zb_, h⟩ := hk_
    show GW X E 8 g_6 37 [(6, .int v_4), (0, .ref a0), (1, .int x1), (2, .int x2), (3, .int x3), (4, .int x4), (5, .int x5)] [.int v_7]
    intro H locs ls hR hS hl
    obtain ⟨h1, h2⟩ := h
    refine lv_if_eq (tgt := 58) C.x C.b dX3_offer_37 (by decide) (fun c => ?_) (fun c => ?_)
    · have h := h1 c; clear h1 h2
      refine lv_aload_n C.x C.b dX3_offer_58 rfl (lv_at hl 1 rfl) ?_
      refine lv_aload_n C.x C.b dX3_offer_59 rfl (lv_at hl 1 rfl) ?_
      obtain ⟨fs_8, v_9, q1, q2, h⟩ := h
      refine z_get C hR q1 rfl (ci := 3) rfl in_X3 3 (by decide) q1640 (fun _ h => h) q2 dX3_offer_60 ?_
      refine lv_iconst (v := 1) C.x C.b dX3_offer_63 (by decide) ?_
      refine lv_isub C.x C.b dX3_offer_64 ?_
      refine z_callV C hR hS hl (n := 1) (C1 := RX3) (T := TX3) (N := 35) (ci := 3) (y := yX3_keepsAll) (bytes := cX3_keepsAll) (maxL := 4) (rt := (some .int)) (As := [.int (v_9 - 1)]) (rest := []) h.1 rfl (lw_V q1781 q1783 qs31 q82 q1784) hdV_X3_keepsAll (by decide) rfl rfl (Nat.le_of_ble_eq_true rfl) dX3_offer_65 h.2 (fun r g_10 hk_ => ?_) (fun x g1 h => z_out C hQ h)
      clear h; obtain ⟨v_11, rfl, h⟩ := hk_
      show GW X E 8 g_10 68 [(6, .int v_4), (0, .ref a0), (1, .int x1), (2, .int x2), (3, .int x3), (4, .int x4), (5, .int x5)] [.int v_11]
      intro H locs ls hR hS hl
      refine lv_istore (lv' := [(7, .int v_11), (6, .int v_4), (0, .ref a0), (1, .int x1), (2, .int x2), (3, .int x3), (4, .int x4), (5, .int x5)]) C.x C.b dX3_offer_68 hl (by decide) rfl (fun ls hl => ?_)
      refine lv_aload_n C.x C.b dX3_offer_70 rfl (lv_at hl 2 rfl) ?_
      obtain ⟨fs_12, v_13, q1, q2, h⟩ := h
      refine z_get C hR q1 rfl (ci := 3) rfl in_X3 3 (by decide) q1640 (fun _ h => h) q2 dX3_offer_71 ?_
      refine lv_iconst (v := 1) C.x C.b dX3_offer_74 (by decide) ?_
      refine lv_isub C.x C.b dX3_offer_75 ?_
      exact z_iret C hQ dX3_offer_76 h H locs ls hR hS hl
    · have h := h2 c; clear h1 h2
      refine lv_aload_n C.x C.b dX3_offer_40 rfl (lv_at hl 1 rfl) ?_
      refine lv_iload C.x C.b dX3_offer_41 (lv_at hl 0 rfl) ?_
      refine z_callV C hR hS hl (n := 1) (C1 := RX3) (T := TX3) (N := 35) (ci := 3) (y := yX3_goesAway) (bytes := cX3_goesAway) (maxL := 4) (rt := none) (As := [.int v_4]) (rest := []) h.1 rfl (lw_V q1865 q1867 qs48 q82 q1868) hdV_X3_goesAway (by decide) rfl rfl (Nat.le_of_ble_eq_true rfl) dX3_offer_43 h.2 (fun r g_14 hk_ => ?_) (fun x g1 h => z_out C hQ h)
      clear h; obtain ⟨rfl, h⟩ := hk_
      show GW X E 8 g_14 46 [(6, .int v_4), (0, .ref a0), (1, .int x1), (2, .int x2), (3, .int x3), (4, .int x4), (5, .int x5)] []
      intro H locs ls hR hS hl
      refine lv_aload_n C.x C.b dX3_offer_46 rfl (lv_at hl 1 rfl) ?_
      refine lv_dup C.x C.b dX3_offer_47 rfl ?_
      obtain ⟨fs_15, v_16, q1, q2, h⟩ := h
      refine z_get C hR q1 rfl (ci := 3) rfl in_X3 4 (by decide) q1641 (fun _ h => h) q2 dX3_offer_48 ?_
      refine lv_iconst (v := 1) C.x C.b dX3_offer_51 (by decide) ?_
      refine lv_iadd C.x C.b dX3_offer_52 ?_
      obtain ⟨fs_17, q1, q2, h⟩ := h
      refine z_put C hR hS q1 rfl (ci := 3) rfl in_X3 tyX3 tyX3_ok nmX3 4 (by decide) q1641 (fun _ h => h) rfl ⟨rfl, rfl⟩ q2 dX3_offer_53 (fun H locs hR hS => ?_)
      have h := h _ rfl
      generalize zSo g_14 3 a0 (fs_17.set 4 (.int (v_16 + 1))) = g_18 at h hR
      refine lv_iconst (v := (-1)) C.x C.b dX3_offer_56 (by decide) ?_
      exact z_iret C hQ dX3_offer_57 h H locs ls hR hS hl
  · have h := h2 c; clear h1 h2
    refine lv_iconst (v := 0) C.x C.b dX3_offer_14 (by decide) ?_
    exact z_iret C hQ dX3_offer_15 h H locs ls hR hS hl
set_option maxHeartbeats 4000000 in
theorem bX3_close_13 {X : zX} {d : Nat} {E : zM} {K : Option Value → zG → Prop} {KX : String → zG → Prop} (C : zC X (d + 1) E RX3 cX3_close 1 (some .int) "close") (hQ : zQ X E K KX) (g : zG) (a0 : Nat) (b0 : Nat) (t1 : Int32) (h : zIs g 3 b0 ∧ zCal X d yX3_goes wX3_goes [.ref b0, .int t1, .int 1, .int 1] g (fun r g_1 => ∃ v_2 : Int32, r = some (.int v_2) ∧ zbo v_2 ∧ (¬ v_2 = 0 → ∃ (fs_3 : List Value), zGo g_1 3 a0 = some fs_3 ∧ 2 < fs_3.length ∧ ∀ g_4 : zG, g_4 = zSo g_1 3 a0 (fs_3.set 2 (.int 1)) → ∃ (fs_5 : List Value) (v_6 : Int32), zGo g_4 3 a0 = some fs_5 ∧ fs_5[3]? = some (.int v_6) ∧ zIs g_4 3 a0 ∧ zCal X d yX3_keepsAll wX3_keepsAll [.ref a0, .int v_6] g_4 (fun r g_7 => ∃ v_8 : Int32, r = some (.int v_8) ∧ K (some (.int v_8)) g_7) KX) ∧ (v_2 = 0 → K (some (.int 0)) g_1)) KX) : GW X E 1 g 13 [(0, .ref a0)] [.int t1, .ref b0] := by
  intro H locs ls hR hS hl
  refine lv_iconst (v := 1) C.x C.b dX3_close_13 (by decide) ?_
  refine lv_iconst (v := 1) C.x C.b dX3_close_14 (by decide) ?_
  refine z_callV C hR hS hl (n := 3) (C1 := RX3) (T := TX3) (N := 35) (ci := 3) (y := yX3_goes) (bytes := cX3_goes) (maxL := 4) (rt := (some .boolean)) (As := [.int t1, .int 1, .int 1]) (rest := []) h.1 rfl (lw_V q1758 q1760 qs28 q82 q1761) hdV_X3_goes (by decide) rfl rfl (Nat.le_of_ble_eq_true rfl) dX3_close_15 h.2 (fun r g_1 hk_ => ?_) (fun x g1 h => z_out C hQ h)
  clear h; obtain ⟨v_2, rfl, zb_, h⟩ := hk_
  show GW X E 1 g_1 18 [(0, .ref a0)] [.int v_2]
  intro H locs ls hR hS hl
  obtain ⟨h1, h2⟩ := h
  refine lv_if_ne (tgt := 23) C.x C.b dX3_close_18 (by decide) (fun c => ?_) (fun c => ?_)
  · have h := h1 c; clear h1 h2
    refine lv_aload_n C.x C.b dX3_close_23 rfl (lv_at hl 0 rfl) ?_
    refine lv_iconst (v := 1) C.x C.b dX3_close_24 (by decide) ?_
    obtain ⟨fs_3, q1, q2, h⟩ := h
    refine z_put C hR hS q1 rfl (ci := 3) rfl in_X3 tyX3 tyX3_ok nmX3 2 (by decide) q1639 (fun _ h => h) rfl ⟨rfl, rfl⟩ q2 dX3_close_25 (fun H locs hR hS => ?_)
    have h := h _ rfl
    generalize zSo g_1 3 a0 (fs_3.set 2 (.int 1)) = g_4 at h hR
    refine lv_aload_n C.x C.b dX3_close_28 rfl (lv_at hl 0 rfl) ?_
    refine lv_aload_n C.x C.b dX3_close_29 rfl (lv_at hl 0 rfl) ?_
    obtain ⟨fs_5, v_6, q1, q2, h⟩ := h
    refine z_get C hR q1 rfl (ci := 3) rfl in_X3 3 (by decide) q1640 (fun _ h => h) q2 dX3_close_30 ?_
    refine z_callV C hR hS hl (n := 1) (C1 := RX3) (T := TX3) (N := 35) (ci := 3) (y := yX3_keepsAll) (bytes := cX3_keepsAll) (maxL := 4) (rt := (some .int)) (As := [.int v_6]) (rest := []) h.1 rfl (lw_V q1781 q1783 qs31 q82 q1784) hdV_X3_keepsAll (by decide) rfl rfl (Nat.le_of_ble_eq_true rfl) dX3_close_33 h.2 (fun r g_7 hk_ => ?_) (fun x g1 h => z_out C hQ h)
    clear h; obtain ⟨v_8, rfl, h⟩ := hk_
    show GW X E 1 g_7 36 [(0, .ref a0)] [.int v_8]
    intro H locs ls hR hS hl
    exact z_iret C hQ dX3_close_36 h H locs ls hR hS hl
  · have h := h2 c; clear h1 h2
    refine lv_iconst (v := 0) C.x C.b dX3_close_21 (by decide) ?_
    exact z_iret C hQ dX3_close_22 h H locs ls hR hS hl
set_option maxHeartbeats 4000000 in
theorem mX3_close {X : zX} {d : Nat} {g : zG} {K : Option Value → zG → Prop} {KX : String → zG → Prop} (hok : zOk X) (a0 : Nat) (h : ∀ E : zM, zC X (d + 1) E RX3 cX3_close 1 (some .int) "close" → zQ X E K KX → ∃ (fs_1 : List Value) (v_2 : Int32), zGo g 3 a0 = some fs_1 ∧ fs_1[2]? = some (.int v_2) ∧ (¬ v_2 = 0 → GW X E 1 g 13 [(0, .ref a0)] [.int 0, .ref a0]) ∧ (v_2 = 0 → GW X E 1 g 13 [(0, .ref a0)] [.int 1, .ref a0])) : zCal X (d + 1) yX3_close wX3_close [.ref a0] g K KX := by
  refine z_enter hok pn_X3 (Nat.le_of_ble_eq_true rfl) (fun E C hQ => ?_)
  have C : zC X (d + 1) E RX3 cX3_close 1 (some .int) "close" := C
  have h := h E C hQ
  show GW X E 1 g 0 [(0, .ref a0)] []
  intro H locs ls hR hS hl
  refine lv_aload_n C.x C.b dX3_close_0 rfl (lv_at hl 0 rfl) ?_
  refine lv_aload_n C.x C.b dX3_close_1 rfl (lv_at hl 0 rfl) ?_
  obtain ⟨fs_1, v_2, q1, q2, h⟩ := h
  refine z_get C hR q1 rfl (ci := 3) rfl in_X3 2 (by decide) q1639 (fun _ h => h) q2 dX3_close_2 ?_
  obtain ⟨h1, h2⟩ := h
  refine lv_if_ne (tgt := 12) C.x C.b dX3_close_5 (by decide) (fun c => ?_) (fun c => ?_)
  · have h := h1 c; clear h1 h2
    refine lv_iconst (v := 0) C.x C.b dX3_close_12 (by decide) ?_
    exact h H locs ls hR hS (lv_sub hl [0] rfl)
  · have h := h2 c; clear h1 h2
    refine lv_iconst (v := 1) C.x C.b dX3_close_8 (by decide) ?_
    refine lv_goto (tgt := 13) C.x C.b dX3_close_9 (by decide) ?_
    exact h H locs ls hR hS (lv_sub hl [0] rfl)
set_option maxHeartbeats 4000000 in
theorem mX3_puts {X : zX} {d : Nat} {g : zG} {K : Option Value → zG → Prop} {KX : String → zG → Prop} (hok : zOk X) (a0 : Nat) (x1 : Int32) (x2 : Int32) (x3 : Int32) (x4 : Int32) (h : ∃ (fs_1 : List Value) (a_2 : Nat), zGo g 3 a0 = some fs_1 ∧ fs_1[16]? = some (.ref a_2) ∧ ∃ (fs_3 : List Value) (v_4 : Int32), zGo g 3 a0 = some fs_3 ∧ fs_3[15]? = some (.int v_4) ∧ ∃ (n_5 : Nat) (f_6 : Nat → Int32), zGi g 16 a_2 = some (n_5, f_6) ∧ vp_in v_4 n_5 ∧ ∀ g_7 : zG, g_7 = zSi g 16 a_2 n_5 (upd f_6 v_4.toNatClampNeg x1) → ∃ (fs_8 : List Value) (a_9 : Nat), zGo g_7 3 a0 = some fs_8 ∧ fs_8[17]? = some (.ref a_9) ∧ ∃ (fs_10 : List Value) (v_11 : Int32), zGo g_7 3 a0 = some fs_10 ∧ fs_10[15]? = some (.int v_11) ∧ ∃ (n_12 : Nat) (f_13 : Nat → Int32), zGi g_7 17 a_9 = some (n_12, f_13) ∧ vp_in v_11 n_12 ∧ ∀ g_14 : zG, g_14 = zSi g_7 17 a_9 n_12 (upd f_13 v_11.toNatClampNeg x2) → ∃ (fs_15 : List Value) (a_16 : Nat), zGo g_14 3 a0 = some fs_15 ∧ fs_15[18]? = some (.ref a_16) ∧ ∃ (fs_17 : List Value) (v_18 : Int32), zGo g_14 3 a0 = some fs_17 ∧ fs_17[15]? = some (.int v_18) ∧ ∃ (n_19 : Nat) (f_20 : Nat → Int32), zGi g_14 18 a_16 = some (n_19, f_20) ∧ vp_in v_18 n_19 ∧ ∀ g_21 : zG, g_21 = zSi g_14 18 a_16 n_19 (upd f_20 v_18.toNatClampNeg x3) → ∃ (fs_22 : List Value) (a_23 : Nat), zGo g_21 3 a0 = some fs_22 ∧ fs_22[19]? = some (.ref a_23) ∧ ∃ (fs_24 : List Value) (v_25 : Int32), zGo g_21 3 a0 = some fs_24 ∧ fs_24[15]? = some (.int v_25) ∧ ∃ (n_26 : Nat) (f_27 : Nat → Int32), zGi g_21 19 a_23 = some (n_26, f_27) ∧ vp_in v_25 n_26 ∧ ∀ g_28 : zG, g_28 = zSi g_21 19 a_23 n_26 (upd f_27 v_25.toNatClampNeg x4) → ∃ (fs_29 : List Value) (v_30 : Int32), zGo g_28 3 a0 = some fs_29 ∧ fs_29[15]? = some (.int v_30) ∧ ∃ (fs_31 : List Value), zGo g_28 3 a0 = some fs_31 ∧ 15 < fs_31.length ∧ ∀ g_32 : zG, g_32 = zSo g_28 3 a0 (fs_31.set 15 (.int (v_30 + 1))) → K none g_32) : zCal X d yX3_puts wX3_puts [.ref a0, .int x1, .int x2, .int x3, .int x4] g K KX := by
  refine z_enter hok pn_X3 (Nat.le_of_ble_eq_true rfl) (fun E C hQ => ?_)
  have C : zC X d E RX3 cX3_puts 5 none "puts" := C
  show GW X E 5 g 0 [(0, .ref a0), (1, .int x1), (2, .int x2), (3, .int x3), (4, .int x4)] []
  intro H locs ls hR hS hl
  refine lv_aload_n C.x C.b dX3_puts_0 rfl (lv_at hl 0 rfl) ?_
  obtain ⟨fs_1, a_2, q1, q2, h⟩ := h
  refine z_get C hR q1 rfl (ci := 3) rfl in_X3 16 (by decide) q1653 (fun _ h => h) q2 dX3_puts_1 ?_
  refine lv_aload_n C.x C.b dX3_puts_4 rfl (lv_at hl 0 rfl) ?_
  obtain ⟨fs_3, v_4, q1, q2, h⟩ := h
  refine z_get C hR q1 rfl (ci := 3) rfl in_X3 15 (by decide) q1652 (fun _ h => h) q2 dX3_puts_5 ?_
  refine lv_iload_n C.x C.b dX3_puts_8 rfl (lv_at hl 1 rfl) ?_
  obtain ⟨n_5, f_6, q1, q2, h⟩ := h
  refine z_iast C hR hS q1 (by decide) q2 dX3_puts_9 (fun H locs hR hS => ?_)
  have h := h _ rfl
  generalize zSi g 16 a_2 n_5 (upd f_6 v_4.toNatClampNeg x1) = g_7 at h hR
  refine lv_aload_n C.x C.b dX3_puts_10 rfl (lv_at hl 0 rfl) ?_
  obtain ⟨fs_8, a_9, q1, q2, h⟩ := h
  refine z_get C hR q1 rfl (ci := 3) rfl in_X3 17 (by decide) q1654 (fun _ h => h) q2 dX3_puts_11 ?_
  refine lv_aload_n C.x C.b dX3_puts_14 rfl (lv_at hl 0 rfl) ?_
  obtain ⟨fs_10, v_11, q1, q2, h⟩ := h
  refine z_get C hR q1 rfl (ci := 3) rfl in_X3 15 (by decide) q1652 (fun _ h => h) q2 dX3_puts_15 ?_
  refine lv_iload_n C.x C.b dX3_puts_18 rfl (lv_at hl 2 rfl) ?_
  obtain ⟨n_12, f_13, q1, q2, h⟩ := h
  refine z_iast C hR hS q1 (by decide) q2 dX3_puts_19 (fun H locs hR hS => ?_)
  have h := h _ rfl
  generalize zSi g_7 17 a_9 n_12 (upd f_13 v_11.toNatClampNeg x2) = g_14 at h hR
  refine lv_aload_n C.x C.b dX3_puts_20 rfl (lv_at hl 0 rfl) ?_
  obtain ⟨fs_15, a_16, q1, q2, h⟩ := h
  refine z_get C hR q1 rfl (ci := 3) rfl in_X3 18 (by decide) q1655 (fun _ h => h) q2 dX3_puts_21 ?_
  refine lv_aload_n C.x C.b dX3_puts_24 rfl (lv_at hl 0 rfl) ?_
  obtain ⟨fs_17, v_18, q1, q2, h⟩ := h
  refine z_get C hR q1 rfl (ci := 3) rfl in_X3 15 (by decide) q1652 (fun _ h => h) q2 dX3_puts_25 ?_
  refine lv_iload_n C.x C.b dX3_puts_28 rfl (lv_at hl 3 rfl) ?_
  obtain ⟨n_19, f_20, q1, q2, h⟩ := h
  refine z_iast C hR hS q1 (by decide) q2 dX3_puts_29 (fun H locs hR hS => ?_)
  have h := h _ rfl
  generalize zSi g_14 18 a_16 n_19 (upd f_20 v_18.toNatClampNeg x3) = g_21 at h hR
  refine lv_aload_n C.x C.b dX3_puts_30 rfl (lv_at hl 0 rfl) ?_
  obtain ⟨fs_22, a_23, q1, q2, h⟩ := h
  refine z_get C hR q1 rfl (ci := 3) rfl in_X3 19 (by decide) q1656 (fun _ h => h) q2 dX3_puts_31 ?_
  refine lv_aload_n C.x C.b dX3_puts_34 rfl (lv_at hl 0 rfl) ?_
  obtain ⟨fs_24, v_25, q1, q2, h⟩ := h
  refine z_get C hR q1 rfl (ci := 3) rfl in_X3 15 (by decide) q1652 (fun _ h => h) q2 dX3_puts_35 ?_
  refine lv_iload C.x C.b dX3_puts_38 (lv_at hl 4 rfl) ?_
  obtain ⟨n_26, f_27, q1, q2, h⟩ := h
  refine z_iast C hR hS q1 (by decide) q2 dX3_puts_40 (fun H locs hR hS => ?_)
  have h := h _ rfl
  generalize zSi g_21 19 a_23 n_26 (upd f_27 v_25.toNatClampNeg x4) = g_28 at h hR
  refine lv_aload_n C.x C.b dX3_puts_41 rfl (lv_at hl 0 rfl) ?_
  refine lv_dup C.x C.b dX3_puts_42 rfl ?_
  obtain ⟨fs_29, v_30, q1, q2, h⟩ := h
  refine z_get C hR q1 rfl (ci := 3) rfl in_X3 15 (by decide) q1652 (fun _ h => h) q2 dX3_puts_43 ?_
  refine lv_iconst (v := 1) C.x C.b dX3_puts_46 (by decide) ?_
  refine lv_iadd C.x C.b dX3_puts_47 ?_
  obtain ⟨fs_31, q1, q2, h⟩ := h
  refine z_put C hR hS q1 rfl (ci := 3) rfl in_X3 tyX3 tyX3_ok nmX3 15 (by decide) q1652 (fun _ h => h) rfl ⟨rfl, rfl⟩ q2 dX3_puts_48 (fun H locs hR hS => ?_)
  have h := h _ rfl
  generalize zSo g_28 3 a0 (fs_31.set 15 (.int (v_30 + 1))) = g_32 at h hR
  exact z_vret C hQ dX3_puts_51 h H locs ls hR hS hl
theorem hdV_X3_puts : yX3_puts.cls = RX3 ∧ yX3_puts.cls ≠ "java/lang/invoke/MethodHandle" ∧ yX3_puts.cls ≠ "java/lang/invoke/VarHandle" ∧ (parseMethodDescriptor yX3_puts.desc).map (fun d => d.parameters.length) = some 4 := by decide +kernel
set_option maxHeartbeats 4000000 in
theorem mX3_lays {X : zX} {d : Nat} {g : zG} {K : Option Value → zG → Prop} {KX : String → zG → Prop} (hok : zOk X) (a0 : Nat) (x1 : Int32) (x2 : Int32) (x3 : Int32) (h : zIs g 3 a0 ∧ zCal X d yX3_puts wX3_puts [.ref a0, .int x1, .int x2, .int x3, .int 1] g (fun r g_1 => r = none ∧ ∃ (fs_2 : List Value) (a_3 : Nat), zGo g_1 3 a0 = some fs_2 ∧ fs_2[14]? = some (.ref a_3) ∧ ∃ (fs_4 : List Value) (v_5 : Int32), zGo g_1 3 a0 = some fs_4 ∧ fs_4[13]? = some (.int v_5) ∧ ∃ (n_6 : Nat) (f_7 : Nat → Int32), zGi g_1 14 a_3 = some (n_6, f_7) ∧ vp_in v_5 n_6 ∧ ∀ g_8 : zG, g_8 = zSi g_1 14 a_3 n_6 (upd f_7 v_5.toNatClampNeg 1) → ∃ (fs_9 : List Value) (v_10 : Int32), zGo g_8 3 a0 = some fs_9 ∧ fs_9[13]? = some (.int v_10) ∧ ∃ (fs_11 : List Value), zGo g_8 3 a0 = some fs_11 ∧ 13 < fs_11.length ∧ ∀ g_12 : zG, g_12 = zSo g_8 3 a0 (fs_11.set 13 (.int (v_10 + 1))) → ∃ (fs_13 : List Value) (v_14 : Int32), zGo g_12 3 a0 = some fs_13 ∧ fs_13[13]? = some (.int v_14) ∧ K (some (.int v_14)) g_12) KX) : zCal X (d + 1) yX3_lays wX3_lays [.ref a0, .int x1, .int x2, .int x3] g K KX := by
  refine z_enter hok pn_X3 (Nat.le_of_ble_eq_true rfl) (fun E C hQ => ?_)
  have C : zC X (d + 1) E RX3 cX3_lays 4 (some .int) "lays" := C
  show GW X E 4 g 0 [(0, .ref a0), (1, .int x1), (2, .int x2), (3, .int x3)] []
  intro H locs ls hR hS hl
  refine lv_aload_n C.x C.b dX3_lays_0 rfl (lv_at hl 0 rfl) ?_
  refine lv_iload_n C.x C.b dX3_lays_1 rfl (lv_at hl 1 rfl) ?_
  refine lv_iload_n C.x C.b dX3_lays_2 rfl (lv_at hl 2 rfl) ?_
  refine lv_iload_n C.x C.b dX3_lays_3 rfl (lv_at hl 3 rfl) ?_
  refine lv_iconst (v := 1) C.x C.b dX3_lays_4 (by decide) ?_
  refine z_callV C hR hS hl (n := 4) (C1 := RX3) (T := TX3) (N := 35) (ci := 3) (y := yX3_puts) (bytes := cX3_puts) (maxL := 5) (rt := none) (As := [.int x1, .int x2, .int x3, .int 1]) (rest := []) h.1 rfl (lw_V q1881 q1883 qs50 q82 q1884) hdV_X3_puts (by decide) rfl rfl (Nat.le_of_ble_eq_true rfl) dX3_lays_5 h.2 (fun r g_1 hk_ => ?_) (fun x g1 h => z_out C hQ h)
  clear h; obtain ⟨rfl, h⟩ := hk_
  show GW X E 4 g_1 8 [(0, .ref a0), (1, .int x1), (2, .int x2), (3, .int x3)] []
  intro H locs ls hR hS hl
  refine lv_aload_n C.x C.b dX3_lays_8 rfl (lv_at hl 0 rfl) ?_
  obtain ⟨fs_2, a_3, q1, q2, h⟩ := h
  refine z_get C hR q1 rfl (ci := 3) rfl in_X3 14 (by decide) q1651 (fun _ h => h) q2 dX3_lays_9 ?_
  refine lv_aload_n C.x C.b dX3_lays_12 rfl (lv_at hl 0 rfl) ?_
  obtain ⟨fs_4, v_5, q1, q2, h⟩ := h
  refine z_get C hR q1 rfl (ci := 3) rfl in_X3 13 (by decide) q1650 (fun _ h => h) q2 dX3_lays_13 ?_
  refine lv_iconst (v := 1) C.x C.b dX3_lays_16 (by decide) ?_
  obtain ⟨n_6, f_7, q1, q2, h⟩ := h
  refine z_iast C hR hS q1 (by decide) q2 dX3_lays_17 (fun H locs hR hS => ?_)
  have h := h _ rfl
  generalize zSi g_1 14 a_3 n_6 (upd f_7 v_5.toNatClampNeg 1) = g_8 at h hR
  refine lv_aload_n C.x C.b dX3_lays_18 rfl (lv_at hl 0 rfl) ?_
  refine lv_dup C.x C.b dX3_lays_19 rfl ?_
  obtain ⟨fs_9, v_10, q1, q2, h⟩ := h
  refine z_get C hR q1 rfl (ci := 3) rfl in_X3 13 (by decide) q1650 (fun _ h => h) q2 dX3_lays_20 ?_
  refine lv_iconst (v := 1) C.x C.b dX3_lays_23 (by decide) ?_
  refine lv_iadd C.x C.b dX3_lays_24 ?_
  obtain ⟨fs_11, q1, q2, h⟩ := h
  refine z_put C hR hS q1 rfl (ci := 3) rfl in_X3 tyX3 tyX3_ok nmX3 13 (by decide) q1650 (fun _ h => h) rfl ⟨rfl, rfl⟩ q2 dX3_lays_25 (fun H locs hR hS => ?_)
  have h := h _ rfl
  generalize zSo g_8 3 a0 (fs_11.set 13 (.int (v_10 + 1))) = g_12 at h hR
  refine lv_aload_n C.x C.b dX3_lays_28 rfl (lv_at hl 0 rfl) ?_
  obtain ⟨fs_13, v_14, q1, q2, h⟩ := h
  refine z_get C hR q1 rfl (ci := 3) rfl in_X3 13 (by decide) q1650 (fun _ h => h) q2 dX3_lays_29 ?_
  exact z_iret C hQ dX3_lays_32 h H locs ls hR hS hl
theorem hdV_X3_lays : yX3_lays.cls = RX3 ∧ yX3_lays.cls ≠ "java/lang/invoke/MethodHandle" ∧ yX3_lays.cls ≠ "java/lang/invoke/VarHandle" ∧ (parseMethodDescriptor yX3_lays.desc).map (fun d => d.parameters.length) = some 3 := by decide +kernel
set_option maxHeartbeats 4000000 in
theorem bX3_kindIs_19 {X : zX} {d : Nat} {E : zM} {K : Option Value → zG → Prop} {KX : String → zG → Prop} (C : zC X (d + 1) E RX3 cX3_kindIs 2 (some .int) "kindIs") (hQ : zQ X E K KX) (g : zG) (a0 : Nat) (x1 : Int32) (b0 : Nat) (t1 : Int32) (t2 : Int32) (h : zIs g 3 b0 ∧ zCal X d yX3_goes wX3_goes [.ref b0, .int t1, .int t2, .int 1] g (fun r g_1 => ∃ v_2 : Int32, r = some (.int v_2) ∧ zbo v_2 ∧ (v_2 = 0 → K (some (.int 0)) g_1) ∧ (¬ v_2 = 0 → zIs g_1 3 a0 ∧ zCal X d yX3_lays wX3_lays [.ref a0, .int 0, .int x1, .int 0] g_1 (fun r g_3 => ∃ v_4 : Int32, r = some (.int v_4) ∧ K (some (.int v_4)) g_3) KX)) KX) : GW X E 2 g 19 [(0, .ref a0), (1, .int x1)] [.int t2, .int t1, .ref b0] := by
  intro H locs ls hR hS hl
  refine lv_iconst (v := 1) C.x C.b dX3_kindIs_19 (by decide) ?_
  refine z_callV C hR hS hl (n := 3) (C1 := RX3) (T := TX3) (N := 35) (ci := 3) (y := yX3_goes) (bytes := cX3_goes) (maxL := 4) (rt := (some .boolean)) (As := [.int t1, .int t2, .int 1]) (rest := []) h.1 rfl (lw_V q1758 q1760 qs28 q82 q1761) hdV_X3_goes (by decide) rfl rfl (Nat.le_of_ble_eq_true rfl) dX3_kindIs_20 h.2 (fun r g_1 hk_ => ?_) (fun x g1 h => z_out C hQ h)
  clear h; obtain ⟨v_2, rfl, zb_, h⟩ := hk_
  show GW X E 2 g_1 23 [(0, .ref a0), (1, .int x1)] [.int v_2]
  intro H locs ls hR hS hl
  obtain ⟨h1, h2⟩ := h
  refine lv_if_eq (tgt := 36) C.x C.b dX3_kindIs_23 (by decide) (fun c => ?_) (fun c => ?_)
  · have h := h1 c; clear h1 h2
    refine lv_iconst (v := 0) C.x C.b dX3_kindIs_36 (by decide) ?_
    exact z_iret C hQ dX3_kindIs_37 h H locs ls hR hS hl
  · have h := h2 c; clear h1 h2
    refine lv_aload_n C.x C.b dX3_kindIs_26 rfl (lv_at hl 0 rfl) ?_
    refine lv_iconst (v := 0) C.x C.b dX3_kindIs_27 (by decide) ?_
    refine lv_iload_n C.x C.b dX3_kindIs_28 rfl (lv_at hl 1 rfl) ?_
    refine lv_iconst (v := 0) C.x C.b dX3_kindIs_29 (by decide) ?_
    refine z_callV C hR hS hl (n := 3) (C1 := RX3) (T := TX3) (N := 35) (ci := 3) (y := yX3_lays) (bytes := cX3_lays) (maxL := 4) (rt := (some .int)) (As := [.int 0, .int x1, .int 0]) (rest := []) h.1 rfl (lw_V q1877 q1879 qs49 q82 q1880) hdV_X3_lays (by decide) rfl rfl (Nat.le_of_ble_eq_true rfl) dX3_kindIs_30 h.2 (fun r g_3 hk_ => ?_) (fun x g1 h => z_out C hQ h)
    clear h; obtain ⟨v_4, rfl, h⟩ := hk_
    show GW X E 2 g_3 33 [(0, .ref a0), (1, .int x1)] [.int v_4]
    intro H locs ls hR hS hl
    refine lv_goto (tgt := 37) C.x C.b dX3_kindIs_33 (by decide) ?_
    exact z_iret C hQ dX3_kindIs_37 h H locs ls hR hS hl
set_option maxHeartbeats 4000000 in
theorem mX3_kindIs {X : zX} {d : Nat} {g : zG} {K : Option Value → zG → Prop} {KX : String → zG → Prop} (hok : zOk X) (a0 : Nat) (x1 : Int32) (h : ∀ E : zM, zC X (d + 1) E RX3 cX3_kindIs 2 (some .int) "kindIs" → zQ X E K KX → zCal X d yX3_isKind wX3_isKind [.int x1] g (fun r g_1 => ∃ v_2 : Int32, r = some (.int v_2) ∧ zbo v_2 ∧ ∃ (fs_3 : List Value) (v_4 : Int32), zGo g_1 3 a0 = some fs_3 ∧ fs_3[13]? = some (.int v_4) ∧ (8 ≤ v_4 → GW X E 2 g_1 19 [(0, .ref a0), (1, .int x1)] [.int 0, .int v_2, .ref a0]) ∧ (¬ 8 ≤ v_4 → GW X E 2 g_1 19 [(0, .ref a0), (1, .int x1)] [.int 1, .int v_2, .ref a0])) KX) : zCal X (d + 1) yX3_kindIs wX3_kindIs [.ref a0, .int x1] g K KX := by
  refine z_enter hok pn_X3 (Nat.le_of_ble_eq_true rfl) (fun E C hQ => ?_)
  have C : zC X (d + 1) E RX3 cX3_kindIs 2 (some .int) "kindIs" := C
  have h := h E C hQ
  show GW X E 2 g 0 [(0, .ref a0), (1, .int x1)] []
  intro H locs ls hR hS hl
  refine lv_aload_n C.x C.b dX3_kindIs_0 rfl (lv_at hl 0 rfl) ?_
  refine lv_iload_n C.x C.b dX3_kindIs_1 rfl (lv_at hl 1 rfl) ?_
  refine z_callS C hR hS hl (n := 1) (y := yX3_isKind) (bytes := cX3_isKind) (maxL := 1) (rt := (some .boolean)) (As := [.int x1]) (rest := [.ref a0]) (lw_S q1774 q1775 q82 q1776) hdS_X3_isKind (by decide) rfl rfl (Nat.le_of_ble_eq_true rfl) dX3_kindIs_2 h (fun r g_1 hk_ => ?_) (fun x g1 h => z_out C hQ h)
  clear h; obtain ⟨v_2, rfl, zb_, h⟩ := hk_
  show GW X E 2 g_1 5 [(0, .ref a0), (1, .int x1)] [.int v_2, .ref a0]
  intro H locs ls hR hS hl
  refine lv_aload_n C.x C.b dX3_kindIs_5 rfl (lv_at hl 0 rfl) ?_
  obtain ⟨fs_3, v_4, q1, q2, h⟩ := h
  refine z_get C hR q1 rfl (ci := 3) rfl in_X3 13 (by decide) q1650 (fun _ h => h) q2 dX3_kindIs_6 ?_
  refine lv_bipush (v := 8) C.x C.b dX3_kindIs_9 (by decide) ?_
  obtain ⟨h1, h2⟩ := h
  refine lv_icmp_ge (tgt := 18) C.x C.b dX3_kindIs_11 (by decide) (fun c => ?_) (fun c => ?_)
  · have h := h1 c; clear h1 h2
    refine lv_iconst (v := 0) C.x C.b dX3_kindIs_18 (by decide) ?_
    exact h H locs ls hR hS (lv_sub hl [0, 1] rfl)
  · have h := h2 c; clear h1 h2
    refine lv_iconst (v := 1) C.x C.b dX3_kindIs_14 (by decide) ?_
    refine lv_goto (tgt := 19) C.x C.b dX3_kindIs_15 (by decide) ?_
    exact h H locs ls hR hS (lv_sub hl [0, 1] rfl)
set_option maxHeartbeats 4000000 in
theorem bX3_valueIs_27 {X : zX} {d : Nat} {E : zM} {K : Option Value → zG → Prop} {KX : String → zG → Prop} (C : zC X (d + 1) E RX3 cX3_valueIs 3 (some .int) "valueIs") (hQ : zQ X E K KX) (g : zG) (a0 : Nat) (x1 : Int32) (x2 : Int32) (b0 : Nat) (h : GW X E 3 g 28 [(0, .ref a0), (1, .int x1), (2, .int x2)] [.int 0, .ref b0]) : GW X E 3 g 27 [(0, .ref a0), (1, .int x1), (2, .int x2)] [.ref b0] := by
  intro H locs ls hR hS hl
  refine lv_iconst (v := 0) C.x C.b dX3_valueIs_27 (by decide) ?_
  exact h H locs ls hR hS (lv_sub hl [0, 1, 2] rfl)
set_option maxHeartbeats 4000000 in
theorem bX3_valueIs_28 {X : zX} {d : Nat} {E : zM} {K : Option Value → zG → Prop} {KX : String → zG → Prop} (C : zC X (d + 1) E RX3 cX3_valueIs 3 (some .int) "valueIs") (hQ : zQ X E K KX) (g : zG) (a0 : Nat) (x1 : Int32) (x2 : Int32) (b0 : Nat) (t1 : Int32) (h : ∃ (fs_1 : List Value) (v_2 : Int32), zGo g 3 a0 = some fs_1 ∧ fs_1[13]? = some (.int v_2) ∧ (8 ≤ v_2 → GW X E 3 g 42 [(0, .ref a0), (1, .int x1), (2, .int x2)] [.int 0, .int t1, .ref b0]) ∧ (¬ 8 ≤ v_2 → GW X E 3 g 42 [(0, .ref a0), (1, .int x1), (2, .int x2)] [.int 1, .int t1, .ref b0])) : GW X E 3 g 28 [(0, .ref a0), (1, .int x1), (2, .int x2)] [.int t1, .ref b0] := by
  intro H locs ls hR hS hl
  refine lv_aload_n C.x C.b dX3_valueIs_28 rfl (lv_at hl 0 rfl) ?_
  obtain ⟨fs_1, v_2, q1, q2, h⟩ := h
  refine z_get C hR q1 rfl (ci := 3) rfl in_X3 13 (by decide) q1650 (fun _ h => h) q2 dX3_valueIs_29 ?_
  refine lv_bipush (v := 8) C.x C.b dX3_valueIs_32 (by decide) ?_
  obtain ⟨h1, h2⟩ := h
  refine lv_icmp_ge (tgt := 41) C.x C.b dX3_valueIs_34 (by decide) (fun c => ?_) (fun c => ?_)
  · have h := h1 c; clear h1 h2
    refine lv_iconst (v := 0) C.x C.b dX3_valueIs_41 (by decide) ?_
    exact h H locs ls hR hS (lv_sub hl [0, 1, 2] rfl)
  · have h := h2 c; clear h1 h2
    refine lv_iconst (v := 1) C.x C.b dX3_valueIs_37 (by decide) ?_
    refine lv_goto (tgt := 42) C.x C.b dX3_valueIs_38 (by decide) ?_
    exact h H locs ls hR hS (lv_sub hl [0, 1, 2] rfl)
set_option maxHeartbeats 4000000 in
theorem bX3_valueIs_42 {X : zX} {d : Nat} {E : zM} {K : Option Value → zG → Prop} {KX : String → zG → Prop} (C : zC X (d + 1) E RX3 cX3_valueIs 3 (some .int) "valueIs") (hQ : zQ X E K KX) (g : zG) (a0 : Nat) (x1 : Int32) (x2 : Int32) (b0 : Nat) (t1 : Int32) (t2 : Int32) (h : zIs g 3 b0 ∧ zCal X d yX3_goes wX3_goes [.ref b0, .int t1, .int t2, .int 1] g (fun r g_1 => ∃ v_2 : Int32, r = some (.int v_2) ∧ zbo v_2 ∧ (v_2 = 0 → K (some (.int 0)) g_1) ∧ (¬ v_2 = 0 → zIs g_1 3 a0 ∧ zCal X d yX3_lays wX3_lays [.ref a0, .int 1, .int x1, .int x2] g_1 (fun r g_3 => ∃ v_4 : Int32, r = some (.int v_4) ∧ K (some (.int v_4)) g_3) KX)) KX) : GW X E 3 g 42 [(0, .ref a0), (1, .int x1), (2, .int x2)] [.int t2, .int t1, .ref b0] := by
  intro H locs ls hR hS hl
  refine lv_iconst (v := 1) C.x C.b dX3_valueIs_42 (by decide) ?_
  refine z_callV C hR hS hl (n := 3) (C1 := RX3) (T := TX3) (N := 35) (ci := 3) (y := yX3_goes) (bytes := cX3_goes) (maxL := 4) (rt := (some .boolean)) (As := [.int t1, .int t2, .int 1]) (rest := []) h.1 rfl (lw_V q1758 q1760 qs28 q82 q1761) hdV_X3_goes (by decide) rfl rfl (Nat.le_of_ble_eq_true rfl) dX3_valueIs_43 h.2 (fun r g_1 hk_ => ?_) (fun x g1 h => z_out C hQ h)
  clear h; obtain ⟨v_2, rfl, zb_, h⟩ := hk_
  show GW X E 3 g_1 46 [(0, .ref a0), (1, .int x1), (2, .int x2)] [.int v_2]
  intro H locs ls hR hS hl
  obtain ⟨h1, h2⟩ := h
  refine lv_if_eq (tgt := 59) C.x C.b dX3_valueIs_46 (by decide) (fun c => ?_) (fun c => ?_)
  · have h := h1 c; clear h1 h2
    refine lv_iconst (v := 0) C.x C.b dX3_valueIs_59 (by decide) ?_
    exact z_iret C hQ dX3_valueIs_60 h H locs ls hR hS hl
  · have h := h2 c; clear h1 h2
    refine lv_aload_n C.x C.b dX3_valueIs_49 rfl (lv_at hl 0 rfl) ?_
    refine lv_iconst (v := 1) C.x C.b dX3_valueIs_50 (by decide) ?_
    refine lv_iload_n C.x C.b dX3_valueIs_51 rfl (lv_at hl 1 rfl) ?_
    refine lv_iload_n C.x C.b dX3_valueIs_52 rfl (lv_at hl 2 rfl) ?_
    refine z_callV C hR hS hl (n := 3) (C1 := RX3) (T := TX3) (N := 35) (ci := 3) (y := yX3_lays) (bytes := cX3_lays) (maxL := 4) (rt := (some .int)) (As := [.int 1, .int x1, .int x2]) (rest := []) h.1 rfl (lw_V q1877 q1879 qs49 q82 q1880) hdV_X3_lays (by decide) rfl rfl (Nat.le_of_ble_eq_true rfl) dX3_valueIs_53 h.2 (fun r g_3 hk_ => ?_) (fun x g1 h => z_out C hQ h)
    clear h; obtain ⟨v_4, rfl, h⟩ := hk_
    show GW X E 3 g_3 56 [(0, .ref a0), (1, .int x1), (2, .int x2)] [.int v_4]
    intro H locs ls hR hS hl
    refine lv_goto (tgt := 60) C.x C.b dX3_valueIs_56 (by decide) ?_
    exact z_iret C hQ dX3_valueIs_60 h H locs ls hR hS hl
set_option maxHeartbeats 4000000 in
theorem mX3_valueIs {X : zX} {d : Nat} {g : zG} {K : Option Value → zG → Prop} {KX : String → zG → Prop} (hok : zOk X) (a0 : Nat) (x1 : Int32) (x2 : Int32) (h : ∀ E : zM, zC X (d + 1) E RX3 cX3_valueIs 3 (some .int) "valueIs" → zQ X E K KX → zCal X d yX3_in wX3_in [.int x1, .int 0, .int 2] g (fun r g_1 => ∃ v_2 : Int32, r = some (.int v_2) ∧ zbo v_2 ∧ (v_2 = 0 → GW X E 3 g_1 27 [(0, .ref a0), (1, .int x1), (2, .int x2)] [.ref a0]) ∧ (¬ v_2 = 0 → zCal X d yX3_in wX3_in [.int x2, .int (-1000), .int 1000] g_1 (fun r g_3 => ∃ v_4 : Int32, r = some (.int v_4) ∧ zbo v_4 ∧ (v_4 = 0 → GW X E 3 g_3 27 [(0, .ref a0), (1, .int x1), (2, .int x2)] [.ref a0]) ∧ (¬ v_4 = 0 → GW X E 3 g_3 28 [(0, .ref a0), (1, .int x1), (2, .int x2)] [.int 1, .ref a0])) KX)) KX) : zCal X (d + 1) yX3_valueIs wX3_valueIs [.ref a0, .int x1, .int x2] g K KX := by
  refine z_enter hok pn_X3 (Nat.le_of_ble_eq_true rfl) (fun E C hQ => ?_)
  have C : zC X (d + 1) E RX3 cX3_valueIs 3 (some .int) "valueIs" := C
  have h := h E C hQ
  show GW X E 3 g 0 [(0, .ref a0), (1, .int x1), (2, .int x2)] []
  intro H locs ls hR hS hl
  refine lv_aload_n C.x C.b dX3_valueIs_0 rfl (lv_at hl 0 rfl) ?_
  refine lv_iload_n C.x C.b dX3_valueIs_1 rfl (lv_at hl 1 rfl) ?_
  refine lv_iconst (v := 0) C.x C.b dX3_valueIs_2 (by decide) ?_
  refine lv_iconst (v := 2) C.x C.b dX3_valueIs_3 (by decide) ?_
  refine z_callS C hR hS hl (n := 3) (y := yX3_in) (bytes := cX3_in) (maxL := 3) (rt := (some .boolean)) (As := [.int x1, .int 0, .int 2]) (rest := [.ref a0]) (lw_S q1755 q1756 q82 q1757) hdS_X3_in (by decide) rfl rfl (Nat.le_of_ble_eq_true rfl) dX3_valueIs_4 h (fun r g_1 hk_ => ?_) (fun x g1 h => z_out C hQ h)
  clear h; obtain ⟨v_2, rfl, zb_, h⟩ := hk_
  show GW X E 3 g_1 7 [(0, .ref a0), (1, .int x1), (2, .int x2)] [.int v_2, .ref a0]
  intro H locs ls hR hS hl
  obtain ⟨h1, h2⟩ := h
  refine lv_if_eq (tgt := 27) C.x C.b dX3_valueIs_7 (by decide) (fun c => ?_) (fun c => ?_)
  · have h := h1 c; clear h1 h2
    exact h H locs ls hR hS (lv_sub hl [0, 1, 2] rfl)
  · have h := h2 c; clear h1 h2
    refine lv_iload_n C.x C.b dX3_valueIs_10 rfl (lv_at hl 2 rfl) ?_
    refine lv_sipush (v := (-1000)) C.x C.b dX3_valueIs_11 (by decide) ?_
    refine lv_sipush (v := 1000) C.x C.b dX3_valueIs_14 (by decide) ?_
    refine z_callS C hR hS hl (n := 3) (y := yX3_in) (bytes := cX3_in) (maxL := 3) (rt := (some .boolean)) (As := [.int x2, .int (-1000), .int 1000]) (rest := [.ref a0]) (lw_S q1755 q1756 q82 q1757) hdS_X3_in (by decide) rfl rfl (Nat.le_of_ble_eq_true rfl) dX3_valueIs_17 h (fun r g_3 hk_ => ?_) (fun x g1 h => z_out C hQ h)
    clear h; obtain ⟨v_4, rfl, zb_, h⟩ := hk_
    show GW X E 3 g_3 20 [(0, .ref a0), (1, .int x1), (2, .int x2)] [.int v_4, .ref a0]
    intro H locs ls hR hS hl
    obtain ⟨h1, h2⟩ := h
    refine lv_if_eq (tgt := 27) C.x C.b dX3_valueIs_20 (by decide) (fun c => ?_) (fun c => ?_)
    · have h := h1 c; clear h1 h2
      exact h H locs ls hR hS (lv_sub hl [0, 1, 2] rfl)
    · have h := h2 c; clear h1 h2
      refine lv_iconst (v := 1) C.x C.b dX3_valueIs_23 (by decide) ?_
      refine lv_goto (tgt := 28) C.x C.b dX3_valueIs_24 (by decide) ?_
      exact h H locs ls hR hS (lv_sub hl [0, 1, 2] rfl)
set_option maxHeartbeats 4000000 in
theorem bX3_canMake_4 {X : zX} {d : Nat} {E : zM} {K : Option Value → zG → Prop} {KX : String → zG → Prop} (C : zC X d E RX3 cX3_canMake 4 (some .boolean) "canMake") (hQ : zQ X E K KX) (g : zG) (a0 : Nat) (x1 : Int32) (x2 : Int32) (x3 : Int32) (h : (x1 ≤ x3 → ∃ (fs_1 : List Value) (v_2 : Int32), zGo g 3 a0 = some fs_1 ∧ fs_1[13]? = some (.int v_2) ∧ (v_2 < x1 → K (some (.int 0)) g) ∧ (¬ v_2 < x1 → (24 < x2 → K (some (.int 0)) g) ∧ (¬ 24 < x2 → K (some (.int 1)) g))) ∧ (¬ x1 ≤ x3 → ∃ (fs_3 : List Value) (v_4 : Int32), zGo g 3 a0 = some fs_3 ∧ fs_3[13]? = some (.int v_4) ∧ (v_4 ≤ x3 → ∃ (fs_5 : List Value) (v_6 : Int32), zGo g 3 a0 = some fs_5 ∧ fs_5[13]? = some (.int v_6) ∧ (v_6 < x1 → K (some (.int 0)) g) ∧ (¬ v_6 < x1 → (24 < x2 → K (some (.int 0)) g) ∧ (¬ 24 < x2 → K (some (.int 1)) g))) ∧ (¬ v_4 ≤ x3 → ∃ (fs_7 : List Value) (a_8 : Nat), zGo g 3 a0 = some fs_7 ∧ fs_7[14]? = some (.ref a_8) ∧ ∃ (fs_9 : List Value) (v_10 : Int32), zGo g 3 a0 = some fs_9 ∧ fs_9[13]? = some (.int v_10) ∧ ∃ (n_11 : Nat) (f_12 : Nat → Int32), zGi g 14 a_8 = some (n_11, f_12) ∧ vp_in ((v_10 - 1) - x3) n_11 ∧ ∀ v_13 : Int32, v_13 = f_12 ((v_10 - 1) - x3).toNatClampNeg → GW X E 4 g 4 [(0, .ref a0), (1, .int x1), (2, .int (x2 + v_13)), (3, .int (x3 + 1))] []))) : GW X E 4 g 4 [(0, .ref a0), (1, .int x1), (2, .int x2), (3, .int x3)] [] := by
  intro H locs ls hR hS hl
  refine lv_iload_n C.x C.b dX3_canMake_4 rfl (lv_at hl 3 rfl) ?_
  refine lv_iload_n C.x C.b dX3_canMake_5 rfl (lv_at hl 1 rfl) ?_
  obtain ⟨h1, h2⟩ := h
  refine lv_icmp_ge (tgt := 39) C.x C.b dX3_canMake_6 (by decide) (fun c => ?_) (fun c => ?_)
  · have h := h1 c; clear h1 h2
    refine lv_aload_n C.x C.b dX3_canMake_39 rfl (lv_at hl 0 rfl) ?_
    obtain ⟨fs_1, v_2, q1, q2, h⟩ := h
    refine z_get C hR q1 rfl (ci := 3) rfl in_X3 13 (by decide) q1650 (fun _ h => h) q2 dX3_canMake_40 ?_
    refine lv_iload_n C.x C.b dX3_canMake_43 rfl (lv_at hl 1 rfl) ?_
    obtain ⟨h1, h2⟩ := h
    refine lv_icmp_lt (tgt := 57) C.x C.b dX3_canMake_44 (by decide) (fun c => ?_) (fun c => ?_)
    · have h := h1 c; clear h1 h2
      refine lv_iconst (v := 0) C.x C.b dX3_canMake_57 (by decide) ?_
      exact z_zret C hQ rfl dX3_canMake_58 h H locs ls hR hS hl
    · have h := h2 c; clear h1 h2
      refine lv_iload_n C.x C.b dX3_canMake_47 rfl (lv_at hl 2 rfl) ?_
      refine lv_bipush (v := 24) C.x C.b dX3_canMake_48 (by decide) ?_
      obtain ⟨h1, h2⟩ := h
      refine lv_icmp_gt (tgt := 57) C.x C.b dX3_canMake_50 (by decide) (fun c => ?_) (fun c => ?_)
      · have h := h1 c; clear h1 h2
        refine lv_iconst (v := 0) C.x C.b dX3_canMake_57 (by decide) ?_
        exact z_zret C hQ rfl dX3_canMake_58 h H locs ls hR hS hl
      · have h := h2 c; clear h1 h2
        refine lv_iconst (v := 1) C.x C.b dX3_canMake_53 (by decide) ?_
        refine lv_goto (tgt := 58) C.x C.b dX3_canMake_54 (by decide) ?_
        exact z_zret C hQ rfl dX3_canMake_58 h H locs ls hR hS hl
  · have h := h2 c; clear h1 h2
    refine lv_iload_n C.x C.b dX3_canMake_9 rfl (lv_at hl 3 rfl) ?_
    refine lv_aload_n C.x C.b dX3_canMake_10 rfl (lv_at hl 0 rfl) ?_
    obtain ⟨fs_3, v_4, q1, q2, h⟩ := h
    refine z_get C hR q1 rfl (ci := 3) rfl in_X3 13 (by decide) q1650 (fun _ h => h) q2 dX3_canMake_11 ?_
    obtain ⟨h1, h2⟩ := h
    refine lv_icmp_ge (tgt := 39) C.x C.b dX3_canMake_14 (by decide) (fun c => ?_) (fun c => ?_)
    · have h := h1 c; clear h1 h2
      refine lv_aload_n C.x C.b dX3_canMake_39 rfl (lv_at hl 0 rfl) ?_
      obtain ⟨fs_5, v_6, q1, q2, h⟩ := h
      refine z_get C hR q1 rfl (ci := 3) rfl in_X3 13 (by decide) q1650 (fun _ h => h) q2 dX3_canMake_40 ?_
      refine lv_iload_n C.x C.b dX3_canMake_43 rfl (lv_at hl 1 rfl) ?_
      obtain ⟨h1, h2⟩ := h
      refine lv_icmp_lt (tgt := 57) C.x C.b dX3_canMake_44 (by decide) (fun c => ?_) (fun c => ?_)
      · have h := h1 c; clear h1 h2
        refine lv_iconst (v := 0) C.x C.b dX3_canMake_57 (by decide) ?_
        exact z_zret C hQ rfl dX3_canMake_58 h H locs ls hR hS hl
      · have h := h2 c; clear h1 h2
        refine lv_iload_n C.x C.b dX3_canMake_47 rfl (lv_at hl 2 rfl) ?_
        refine lv_bipush (v := 24) C.x C.b dX3_canMake_48 (by decide) ?_
        obtain ⟨h1, h2⟩ := h
        refine lv_icmp_gt (tgt := 57) C.x C.b dX3_canMake_50 (by decide) (fun c => ?_) (fun c => ?_)
        · have h := h1 c; clear h1 h2
          refine lv_iconst (v := 0) C.x C.b dX3_canMake_57 (by decide) ?_
          exact z_zret C hQ rfl dX3_canMake_58 h H locs ls hR hS hl
        · have h := h2 c; clear h1 h2
          refine lv_iconst (v := 1) C.x C.b dX3_canMake_53 (by decide) ?_
          refine lv_goto (tgt := 58) C.x C.b dX3_canMake_54 (by decide) ?_
          exact z_zret C hQ rfl dX3_canMake_58 h H locs ls hR hS hl
    · have h := h2 c; clear h1 h2
      refine lv_iload_n C.x C.b dX3_canMake_17 rfl (lv_at hl 2 rfl) ?_
      refine lv_aload_n C.x C.b dX3_canMake_18 rfl (lv_at hl 0 rfl) ?_
      obtain ⟨fs_7, a_8, q1, q2, h⟩ := h
      refine z_get C hR q1 rfl (ci := 3) rfl in_X3 14 (by decide) q1651 (fun _ h => h) q2 dX3_canMake_19 ?_
      refine lv_aload_n C.x C.b dX3_canMake_22 rfl (lv_at hl 0 rfl) ?_
      obtain ⟨fs_9, v_10, q1, q2, h⟩ := h
      refine z_get C hR q1 rfl (ci := 3) rfl in_X3 13 (by decide) q1650 (fun _ h => h) q2 dX3_canMake_23 ?_
      refine lv_iconst (v := 1) C.x C.b dX3_canMake_26 (by decide) ?_
      refine lv_isub C.x C.b dX3_canMake_27 ?_
      refine lv_iload_n C.x C.b dX3_canMake_28 rfl (lv_at hl 3 rfl) ?_
      refine lv_isub C.x C.b dX3_canMake_29 ?_
      obtain ⟨n_11, f_12, q1, q2, h⟩ := h
      refine z_iald C hR q1 (by decide) q2 dX3_canMake_30 ?_
      have h := h _ rfl
      generalize f_12 ((v_10 - 1) - x3).toNatClampNeg = v_13 at h ⊢
      refine lv_iadd C.x C.b dX3_canMake_31 ?_
      refine lv_istore_n (lv' := [(2, .int (x2 + v_13)), (0, .ref a0), (1, .int x1), (3, .int x3)]) C.x C.b dX3_canMake_32 rfl hl (by decide) rfl (fun ls hl => ?_)
      refine lv_iinc (v := x3 + 1) (lv' := [(3, .int (x3 + 1)), (2, .int (x2 + v_13)), (0, .ref a0), (1, .int x1)]) C.x C.b dX3_canMake_33 hl (k := 3) rfl rfl (by decide) rfl (fun ls hl => ?_)
      refine lv_goto (tgt := 4) C.x C.b dX3_canMake_36 (by decide) ?_
      exact h H locs ls hR hS (lv_sub hl [2, 3, 1, 0] rfl)
set_option maxHeartbeats 4000000 in
theorem mX3_canMake {X : zX} {d : Nat} {g : zG} {K : Option Value → zG → Prop} {KX : String → zG → Prop} (hok : zOk X) (a0 : Nat) (x1 : Int32) (h : ∀ E : zM, zC X d E RX3 cX3_canMake 4 (some .boolean) "canMake" → zQ X E K KX → GW X E 4 g 4 [(0, .ref a0), (1, .int x1), (2, .int 1), (3, .int 0)] []) : zCal X d yX3_canMake wX3_canMake [.ref a0, .int x1] g K KX := by
  refine z_enter hok pn_X3 (Nat.le_of_ble_eq_true rfl) (fun E C hQ => ?_)
  have C : zC X d E RX3 cX3_canMake 4 (some .boolean) "canMake" := C
  have h := h E C hQ
  show GW X E 4 g 0 [(0, .ref a0), (1, .int x1)] []
  intro H locs ls hR hS hl
  refine lv_iconst (v := 1) C.x C.b dX3_canMake_0 (by decide) ?_
  refine lv_istore_n (lv' := [(2, .int 1), (0, .ref a0), (1, .int x1)]) C.x C.b dX3_canMake_1 rfl hl (by decide) rfl (fun ls hl => ?_)
  refine lv_iconst (v := 0) C.x C.b dX3_canMake_2 (by decide) ?_
  refine lv_istore_n (lv' := [(3, .int 0), (2, .int 1), (0, .ref a0), (1, .int x1)]) C.x C.b dX3_canMake_3 rfl hl (by decide) rfl (fun ls hl => ?_)
  exact h H locs ls hR hS (lv_sub hl [2, 3, 1, 0] rfl)
set_option maxHeartbeats 4000000 in
theorem bX3_makes_6 {X : zX} {d : Nat} {E : zM} {K : Option Value → zG → Prop} {KX : String → zG → Prop} (C : zC X (d + 1) E RX3 cX3_makes 7 (some .int) "makes") (hQ : zQ X E K KX) (g : zG) (a0 : Nat) (x1 : Int32) (x2 : Int32) (x3 : Int32) (x4 : Int32) (x5 : Int32) (x6 : Int32) (h : (x2 ≤ x6 → zIs g 3 a0 ∧ zCal X d yX3_puts wX3_puts [.ref a0, .int x1, .int x3, .int x4, .int x5] g (fun r g_1 => r = none ∧ ∃ (fs_2 : List Value) (v_3 : Int32), zGo g_1 3 a0 = some fs_2 ∧ fs_2[13]? = some (.int v_3) ∧ ∃ (fs_4 : List Value), zGo g_1 3 a0 = some fs_4 ∧ 13 < fs_4.length ∧ ∀ g_5 : zG, g_5 = zSo g_1 3 a0 (fs_4.set 13 (.int (v_3 - (x2 - 1)))) → ∃ (fs_6 : List Value) (a_7 : Nat), zGo g_5 3 a0 = some fs_6 ∧ fs_6[14]? = some (.ref a_7) ∧ ∃ (fs_8 : List Value) (v_9 : Int32), zGo g_5 3 a0 = some fs_8 ∧ fs_8[13]? = some (.int v_9) ∧ ∃ (n_10 : Nat) (f_11 : Nat → Int32), zGi g_5 14 a_7 = some (n_10, f_11) ∧ vp_in (v_9 - 1) n_10 ∧ ∀ g_12 : zG, g_12 = zSi g_5 14 a_7 n_10 (upd f_11 (v_9 - 1).toNatClampNeg x5) → ∃ (fs_13 : List Value) (v_14 : Int32), zGo g_12 3 a0 = some fs_13 ∧ fs_13[13]? = some (.int v_14) ∧ K (some (.int v_14)) g_12) KX) ∧ (¬ x2 ≤ x6 → ∃ (fs_15 : List Value) (a_16 : Nat), zGo g 3 a0 = some fs_15 ∧ fs_15[14]? = some (.ref a_16) ∧ ∃ (fs_17 : List Value) (v_18 : Int32), zGo g 3 a0 = some fs_17 ∧ fs_17[13]? = some (.int v_18) ∧ ∃ (n_19 : Nat) (f_20 : Nat → Int32), zGi g 14 a_16 = some (n_19, f_20) ∧ vp_in ((v_18 - 1) - x6) n_19 ∧ ∀ v_21 : Int32, v_21 = f_20 ((v_18 - 1) - x6).toNatClampNeg → GW X E 7 g 6 [(0, .ref a0), (1, .int x1), (2, .int x2), (3, .int x3), (4, .int x4), (5, .int (x5 + v_21)), (6, .int (x6 + 1))] [])) : GW X E 7 g 6 [(0, .ref a0), (1, .int x1), (2, .int x2), (3, .int x3), (4, .int x4), (5, .int x5), (6, .int x6)] [] := by
  intro H locs ls hR hS hl
  refine lv_iload C.x C.b dX3_makes_6 (lv_at hl 6 rfl) ?_
  refine lv_iload_n C.x C.b dX3_makes_8 rfl (lv_at hl 2 rfl) ?_
  obtain ⟨h1, h2⟩ := h
  refine lv_icmp_ge (tgt := 37) C.x C.b dX3_makes_9 (by decide) (fun c => ?_) (fun c => ?_)
  · have h := h1 c; clear h1 h2
    refine lv_aload_n C.x C.b dX3_makes_37 rfl (lv_at hl 0 rfl) ?_
    refine lv_iload_n C.x C.b dX3_makes_38 rfl (lv_at hl 1 rfl) ?_
    refine lv_iload_n C.x C.b dX3_makes_39 rfl (lv_at hl 3 rfl) ?_
    refine lv_iload C.x C.b dX3_makes_40 (lv_at hl 4 rfl) ?_
    refine lv_iload C.x C.b dX3_makes_42 (lv_at hl 5 rfl) ?_
    refine z_callV C hR hS hl (n := 4) (C1 := RX3) (T := TX3) (N := 35) (ci := 3) (y := yX3_puts) (bytes := cX3_puts) (maxL := 5) (rt := none) (As := [.int x1, .int x3, .int x4, .int x5]) (rest := []) h.1 rfl (lw_V q1881 q1883 qs50 q82 q1884) hdV_X3_puts (by decide) rfl rfl (Nat.le_of_ble_eq_true rfl) dX3_makes_44 h.2 (fun r g_1 hk_ => ?_) (fun x g1 h => z_out C hQ h)
    clear h; obtain ⟨rfl, h⟩ := hk_
    show GW X E 7 g_1 47 [(0, .ref a0), (1, .int x1), (2, .int x2), (3, .int x3), (4, .int x4), (5, .int x5), (6, .int x6)] []
    intro H locs ls hR hS hl
    refine lv_aload_n C.x C.b dX3_makes_47 rfl (lv_at hl 0 rfl) ?_
    refine lv_dup C.x C.b dX3_makes_48 rfl ?_
    obtain ⟨fs_2, v_3, q1, q2, h⟩ := h
    refine z_get C hR q1 rfl (ci := 3) rfl in_X3 13 (by decide) q1650 (fun _ h => h) q2 dX3_makes_49 ?_
    refine lv_iload_n C.x C.b dX3_makes_52 rfl (lv_at hl 2 rfl) ?_
    refine lv_iconst (v := 1) C.x C.b dX3_makes_53 (by decide) ?_
    refine lv_isub C.x C.b dX3_makes_54 ?_
    refine lv_isub C.x C.b dX3_makes_55 ?_
    obtain ⟨fs_4, q1, q2, h⟩ := h
    refine z_put C hR hS q1 rfl (ci := 3) rfl in_X3 tyX3 tyX3_ok nmX3 13 (by decide) q1650 (fun _ h => h) rfl ⟨rfl, rfl⟩ q2 dX3_makes_56 (fun H locs hR hS => ?_)
    have h := h _ rfl
    generalize zSo g_1 3 a0 (fs_4.set 13 (.int (v_3 - (x2 - 1)))) = g_5 at h hR
    refine lv_aload_n C.x C.b dX3_makes_59 rfl (lv_at hl 0 rfl) ?_
    obtain ⟨fs_6, a_7, q1, q2, h⟩ := h
    refine z_get C hR q1 rfl (ci := 3) rfl in_X3 14 (by decide) q1651 (fun _ h => h) q2 dX3_makes_60 ?_
    refine lv_aload_n C.x C.b dX3_makes_63 rfl (lv_at hl 0 rfl) ?_
    obtain ⟨fs_8, v_9, q1, q2, h⟩ := h
    refine z_get C hR q1 rfl (ci := 3) rfl in_X3 13 (by decide) q1650 (fun _ h => h) q2 dX3_makes_64 ?_
    refine lv_iconst (v := 1) C.x C.b dX3_makes_67 (by decide) ?_
    refine lv_isub C.x C.b dX3_makes_68 ?_
    refine lv_iload C.x C.b dX3_makes_69 (lv_at hl 5 rfl) ?_
    obtain ⟨n_10, f_11, q1, q2, h⟩ := h
    refine z_iast C hR hS q1 (by decide) q2 dX3_makes_71 (fun H locs hR hS => ?_)
    have h := h _ rfl
    generalize zSi g_5 14 a_7 n_10 (upd f_11 (v_9 - 1).toNatClampNeg x5) = g_12 at h hR
    refine lv_aload_n C.x C.b dX3_makes_72 rfl (lv_at hl 0 rfl) ?_
    obtain ⟨fs_13, v_14, q1, q2, h⟩ := h
    refine z_get C hR q1 rfl (ci := 3) rfl in_X3 13 (by decide) q1650 (fun _ h => h) q2 dX3_makes_73 ?_
    exact z_iret C hQ dX3_makes_76 h H locs ls hR hS hl
  · have h := h2 c; clear h1 h2
    refine lv_iload C.x C.b dX3_makes_12 (lv_at hl 5 rfl) ?_
    refine lv_aload_n C.x C.b dX3_makes_14 rfl (lv_at hl 0 rfl) ?_
    obtain ⟨fs_15, a_16, q1, q2, h⟩ := h
    refine z_get C hR q1 rfl (ci := 3) rfl in_X3 14 (by decide) q1651 (fun _ h => h) q2 dX3_makes_15 ?_
    refine lv_aload_n C.x C.b dX3_makes_18 rfl (lv_at hl 0 rfl) ?_
    obtain ⟨fs_17, v_18, q1, q2, h⟩ := h
    refine z_get C hR q1 rfl (ci := 3) rfl in_X3 13 (by decide) q1650 (fun _ h => h) q2 dX3_makes_19 ?_
    refine lv_iconst (v := 1) C.x C.b dX3_makes_22 (by decide) ?_
    refine lv_isub C.x C.b dX3_makes_23 ?_
    refine lv_iload C.x C.b dX3_makes_24 (lv_at hl 6 rfl) ?_
    refine lv_isub C.x C.b dX3_makes_26 ?_
    obtain ⟨n_19, f_20, q1, q2, h⟩ := h
    refine z_iald C hR q1 (by decide) q2 dX3_makes_27 ?_
    have h := h _ rfl
    generalize f_20 ((v_18 - 1) - x6).toNatClampNeg = v_21 at h ⊢
    refine lv_iadd C.x C.b dX3_makes_28 ?_
    refine lv_istore (lv' := [(5, .int (x5 + v_21)), (0, .ref a0), (1, .int x1), (2, .int x2), (3, .int x3), (4, .int x4), (6, .int x6)]) C.x C.b dX3_makes_29 hl (by decide) rfl (fun ls hl => ?_)
    refine lv_iinc (v := x6 + 1) (lv' := [(6, .int (x6 + 1)), (5, .int (x5 + v_21)), (0, .ref a0), (1, .int x1), (2, .int x2), (3, .int x3), (4, .int x4)]) C.x C.b dX3_makes_31 hl (k := 6) rfl rfl (by decide) rfl (fun ls hl => ?_)
    refine lv_goto (tgt := 6) C.x C.b dX3_makes_34 (by decide) ?_
    exact h H locs ls hR hS (lv_sub hl [2, 3, 4, 5, 6, 1, 0] rfl)
set_option maxHeartbeats 4000000 in
theorem mX3_makes {X : zX} {d : Nat} {g : zG} {K : Option Value → zG → Prop} {KX : String → zG → Prop} (hok : zOk X) (a0 : Nat) (x1 : Int32) (x2 : Int32) (x3 : Int32) (x4 : Int32) (h : ∀ E : zM, zC X (d + 1) E RX3 cX3_makes 7 (some .int) "makes" → zQ X E K KX → GW X E 7 g 6 [(0, .ref a0), (1, .int x1), (2, .int x2), (3, .int x3), (4, .int x4), (5, .int 1), (6, .int 0)] []) : zCal X (d + 1) yX3_makes wX3_makes [.ref a0, .int x1, .int x2, .int x3, .int x4] g K KX := by
  refine z_enter hok pn_X3 (Nat.le_of_ble_eq_true rfl) (fun E C hQ => ?_)
  have C : zC X (d + 1) E RX3 cX3_makes 7 (some .int) "makes" := C
  have h := h E C hQ
  show GW X E 7 g 0 [(0, .ref a0), (1, .int x1), (2, .int x2), (3, .int x3), (4, .int x4)] []
  intro H locs ls hR hS hl
  refine lv_iconst (v := 1) C.x C.b dX3_makes_0 (by decide) ?_
  refine lv_istore (lv' := [(5, .int 1), (0, .ref a0), (1, .int x1), (2, .int x2), (3, .int x3), (4, .int x4)]) C.x C.b dX3_makes_1 hl (by decide) rfl (fun ls hl => ?_)
  refine lv_iconst (v := 0) C.x C.b dX3_makes_3 (by decide) ?_
  refine lv_istore (lv' := [(6, .int 0), (5, .int 1), (0, .ref a0), (1, .int x1), (2, .int x2), (3, .int x3), (4, .int x4)]) C.x C.b dX3_makes_4 hl (by decide) rfl (fun ls hl => ?_)
  exact h H locs ls hR hS (lv_sub hl [2, 3, 4, 5, 6, 1, 0] rfl)
theorem hdV_X3_canMake : yX3_canMake.cls = RX3 ∧ yX3_canMake.cls ≠ "java/lang/invoke/MethodHandle" ∧ yX3_canMake.cls ≠ "java/lang/invoke/VarHandle" ∧ (parseMethodDescriptor yX3_canMake.desc).map (fun d => d.parameters.length) = some 1 := by decide +kernel
theorem hdV_X3_makes : yX3_makes.cls = RX3 ∧ yX3_makes.cls ≠ "java/lang/invoke/MethodHandle" ∧ yX3_makes.cls ≠ "java/lang/invoke/VarHandle" ∧ (parseMethodDescriptor yX3_makes.desc).map (fun d => d.parameters.length) = some 4 := by decide +kernel
set_option maxHeartbeats 4000000 in
theorem mX3_joins {X : zX} {d : Nat} {g : zG} {K : Option Value → zG → Prop} {KX : String → zG → Prop} (hok : zOk X) (a0 : Nat) (x1 : Int32) (x2 : Int32) (h : zIs g 3 a0 ∧ zCal X d yX3_canMake wX3_canMake [.ref a0, .int x2] g (fun r g_1 => ∃ v_2 : Int32, r = some (.int v_2) ∧ zbo v_2 ∧ zIs g_1 3 a0 ∧ zCal X d yX3_goes wX3_goes [.ref a0, .int v_2, .int 1, .int 1] g_1 (fun r g_3 => ∃ v_4 : Int32, r = some (.int v_4) ∧ zbo v_4 ∧ (v_4 = 0 → K (some (.int 0)) g_3) ∧ (¬ v_4 = 0 → zIs g_3 3 a0 ∧ zCal X d yX3_makes wX3_makes [.ref a0, .int x1, .int x2, .int 0, .int 0] g_3 (fun r g_5 => ∃ v_6 : Int32, r = some (.int v_6) ∧ K (some (.int v_6)) g_5) KX)) KX) KX) : zCal X (d + 1) yX3_joins wX3_joins [.ref a0, .int x1, .int x2] g K KX := by
  refine z_enter hok pn_X3 (Nat.le_of_ble_eq_true rfl) (fun E C hQ => ?_)
  have C : zC X (d + 1) E RX3 cX3_joins 3 (some .int) "joins" := C
  show GW X E 3 g 0 [(0, .ref a0), (1, .int x1), (2, .int x2)] []
  intro H locs ls hR hS hl
  refine lv_aload_n C.x C.b dX3_joins_0 rfl (lv_at hl 0 rfl) ?_
  refine lv_aload_n C.x C.b dX3_joins_1 rfl (lv_at hl 0 rfl) ?_
  refine lv_iload_n C.x C.b dX3_joins_2 rfl (lv_at hl 2 rfl) ?_
  refine z_callV C hR hS hl (n := 1) (C1 := RX3) (T := TX3) (N := 35) (ci := 3) (y := yX3_canMake) (bytes := cX3_canMake) (maxL := 4) (rt := (some .boolean)) (As := [.int x2]) (rest := [.ref a0]) h.1 rfl (lw_V q1897 q1899 qs52 q82 q1900) hdV_X3_canMake (by decide) rfl rfl (Nat.le_of_ble_eq_true rfl) dX3_joins_3 h.2 (fun r g_1 hk_ => ?_) (fun x g1 h => z_out C hQ h)
  clear h; obtain ⟨v_2, rfl, zb_, h⟩ := hk_
  show GW X E 3 g_1 6 [(0, .ref a0), (1, .int x1), (2, .int x2)] [.int v_2, .ref a0]
  intro H locs ls hR hS hl
  refine lv_iconst (v := 1) C.x C.b dX3_joins_6 (by decide) ?_
  refine lv_iconst (v := 1) C.x C.b dX3_joins_7 (by decide) ?_
  refine z_callV C hR hS hl (n := 3) (C1 := RX3) (T := TX3) (N := 35) (ci := 3) (y := yX3_goes) (bytes := cX3_goes) (maxL := 4) (rt := (some .boolean)) (As := [.int v_2, .int 1, .int 1]) (rest := []) h.1 rfl (lw_V q1758 q1760 qs28 q82 q1761) hdV_X3_goes (by decide) rfl rfl (Nat.le_of_ble_eq_true rfl) dX3_joins_8 h.2 (fun r g_3 hk_ => ?_) (fun x g1 h => z_out C hQ h)
  clear h; obtain ⟨v_4, rfl, zb_, h⟩ := hk_
  show GW X E 3 g_3 11 [(0, .ref a0), (1, .int x1), (2, .int x2)] [.int v_4]
  intro H locs ls hR hS hl
  obtain ⟨h1, h2⟩ := h
  refine lv_if_eq (tgt := 25) C.x C.b dX3_joins_11 (by decide) (fun c => ?_) (fun c => ?_)
  · have h := h1 c; clear h1 h2
    refine lv_iconst (v := 0) C.x C.b dX3_joins_25 (by decide) ?_
    exact z_iret C hQ dX3_joins_26 h H locs ls hR hS hl
  · have h := h2 c; clear h1 h2
    refine lv_aload_n C.x C.b dX3_joins_14 rfl (lv_at hl 0 rfl) ?_
    refine lv_iload_n C.x C.b dX3_joins_15 rfl (lv_at hl 1 rfl) ?_
    refine lv_iload_n C.x C.b dX3_joins_16 rfl (lv_at hl 2 rfl) ?_
    refine lv_iconst (v := 0) C.x C.b dX3_joins_17 (by decide) ?_
    refine lv_iconst (v := 0) C.x C.b dX3_joins_18 (by decide) ?_
    refine z_callV C hR hS hl (n := 4) (C1 := RX3) (T := TX3) (N := 35) (ci := 3) (y := yX3_makes) (bytes := cX3_makes) (maxL := 7) (rt := (some .int)) (As := [.int x1, .int x2, .int 0, .int 0]) (rest := []) h.1 rfl (lw_V q1901 q1903 qs53 q82 q1904) hdV_X3_makes (by decide) rfl rfl (Nat.le_of_ble_eq_true rfl) dX3_joins_19 h.2 (fun r g_5 hk_ => ?_) (fun x g1 h => z_out C hQ h)
    clear h; obtain ⟨v_6, rfl, h⟩ := hk_
    show GW X E 3 g_5 22 [(0, .ref a0), (1, .int x1), (2, .int x2)] [.int v_6]
    intro H locs ls hR hS hl
    refine lv_goto (tgt := 26) C.x C.b dX3_joins_22 (by decide) ?_
    exact z_iret C hQ dX3_joins_26 h H locs ls hR hS hl
theorem hdV_X3_joins : yX3_joins.cls = RX3 ∧ yX3_joins.cls ≠ "java/lang/invoke/MethodHandle" ∧ yX3_joins.cls ≠ "java/lang/invoke/VarHandle" ∧ (parseMethodDescriptor yX3_joins.desc).map (fun d => d.parameters.length) = some 2 := by decide +kernel
set_option maxHeartbeats 4000000 in
theorem mX3_not_2 {X : zX} {d : Nat} {g : zG} {K : Option Value → zG → Prop} {KX : String → zG → Prop} (hok : zOk X) (a0 : Nat) (h : zIs g 3 a0 ∧ zCal X d yX3_joins wX3_joins [.ref a0, .int 2, .int 1] g (fun r g_1 => ∃ v_2 : Int32, r = some (.int v_2) ∧ K (some (.int v_2)) g_1) KX) : zCal X (d + 1) yX3_not_2 wX3_not_2 [.ref a0] g K KX := by
  refine z_enter hok pn_X3 (Nat.le_of_ble_eq_true rfl) (fun E C hQ => ?_)
  have C : zC X (d + 1) E RX3 cX3_not_2 1 (some .int) "not" := C
  show GW X E 1 g 0 [(0, .ref a0)] []
  intro H locs ls hR hS hl
  refine lv_aload_n C.x C.b dX3_not_2_0 rfl (lv_at hl 0 rfl) ?_
  refine lv_iconst (v := 2) C.x C.b dX3_not_2_1 (by decide) ?_
  refine lv_iconst (v := 1) C.x C.b dX3_not_2_2 (by decide) ?_
  refine z_callV C hR hS hl (n := 2) (C1 := RX3) (T := TX3) (N := 35) (ci := 3) (y := yX3_joins) (bytes := cX3_joins) (maxL := 3) (rt := (some .int)) (As := [.int 2, .int 1]) (rest := []) h.1 rfl (lw_V q1893 q1895 qs51 q82 q1896) hdV_X3_joins (by decide) rfl rfl (Nat.le_of_ble_eq_true rfl) dX3_not_2_3 h.2 (fun r g_1 hk_ => ?_) (fun x g1 h => z_out C hQ h)
  clear h; obtain ⟨v_2, rfl, h⟩ := hk_
  show GW X E 1 g_1 6 [(0, .ref a0)] [.int v_2]
  intro H locs ls hR hS hl
  exact z_iret C hQ dX3_not_2_6 h H locs ls hR hS hl
set_option maxHeartbeats 4000000 in
theorem mX3_both {X : zX} {d : Nat} {g : zG} {K : Option Value → zG → Prop} {KX : String → zG → Prop} (hok : zOk X) (a0 : Nat) (h : zIs g 3 a0 ∧ zCal X d yX3_joins wX3_joins [.ref a0, .int 3, .int 2] g (fun r g_1 => ∃ v_2 : Int32, r = some (.int v_2) ∧ K (some (.int v_2)) g_1) KX) : zCal X (d + 1) yX3_both wX3_both [.ref a0] g K KX := by
  refine z_enter hok pn_X3 (Nat.le_of_ble_eq_true rfl) (fun E C hQ => ?_)
  have C : zC X (d + 1) E RX3 cX3_both 1 (some .int) "both" := C
  show GW X E 1 g 0 [(0, .ref a0)] []
  intro H locs ls hR hS hl
  refine lv_aload_n C.x C.b dX3_both_0 rfl (lv_at hl 0 rfl) ?_
  refine lv_iconst (v := 3) C.x C.b dX3_both_1 (by decide) ?_
  refine lv_iconst (v := 2) C.x C.b dX3_both_2 (by decide) ?_
  refine z_callV C hR hS hl (n := 2) (C1 := RX3) (T := TX3) (N := 35) (ci := 3) (y := yX3_joins) (bytes := cX3_joins) (maxL := 3) (rt := (some .int)) (As := [.int 3, .int 2]) (rest := []) h.1 rfl (lw_V q1893 q1895 qs51 q82 q1896) hdV_X3_joins (by decide) rfl rfl (Nat.le_of_ble_eq_true rfl) dX3_both_3 h.2 (fun r g_1 hk_ => ?_) (fun x g1 h => z_out C hQ h)
  clear h; obtain ⟨v_2, rfl, h⟩ := hk_
  show GW X E 1 g_1 6 [(0, .ref a0)] [.int v_2]
  intro H locs ls hR hS hl
  exact z_iret C hQ dX3_both_6 h H locs ls hR hS hl
set_option maxHeartbeats 4000000 in
theorem mX3_either {X : zX} {d : Nat} {g : zG} {K : Option Value → zG → Prop} {KX : String → zG → Prop} (hok : zOk X) (a0 : Nat) (h : zIs g 3 a0 ∧ zCal X d yX3_joins wX3_joins [.ref a0, .int 4, .int 2] g (fun r g_1 => ∃ v_2 : Int32, r = some (.int v_2) ∧ K (some (.int v_2)) g_1) KX) : zCal X (d + 1) yX3_either wX3_either [.ref a0] g K KX := by
  refine z_enter hok pn_X3 (Nat.le_of_ble_eq_true rfl) (fun E C hQ => ?_)
  have C : zC X (d + 1) E RX3 cX3_either 1 (some .int) "either" := C
  show GW X E 1 g 0 [(0, .ref a0)] []
  intro H locs ls hR hS hl
  refine lv_aload_n C.x C.b dX3_either_0 rfl (lv_at hl 0 rfl) ?_
  refine lv_iconst (v := 4) C.x C.b dX3_either_1 (by decide) ?_
  refine lv_iconst (v := 2) C.x C.b dX3_either_2 (by decide) ?_
  refine z_callV C hR hS hl (n := 2) (C1 := RX3) (T := TX3) (N := 35) (ci := 3) (y := yX3_joins) (bytes := cX3_joins) (maxL := 3) (rt := (some .int)) (As := [.int 4, .int 2]) (rest := []) h.1 rfl (lw_V q1893 q1895 qs51 q82 q1896) hdV_X3_joins (by decide) rfl rfl (Nat.le_of_ble_eq_true rfl) dX3_either_3 h.2 (fun r g_1 hk_ => ?_) (fun x g1 h => z_out C hQ h)
  clear h; obtain ⟨v_2, rfl, h⟩ := hk_
  show GW X E 1 g_1 6 [(0, .ref a0)] [.int v_2]
  intro H locs ls hR hS hl
  exact z_iret C hQ dX3_either_6 h H locs ls hR hS hl
set_option maxHeartbeats 4000000 in
theorem mX3_before {X : zX} {d : Nat} {g : zG} {K : Option Value → zG → Prop} {KX : String → zG → Prop} (hok : zOk X) (a0 : Nat) (h : zIs g 3 a0 ∧ zCal X d yX3_joins wX3_joins [.ref a0, .int 5, .int 1] g (fun r g_1 => ∃ v_2 : Int32, r = some (.int v_2) ∧ K (some (.int v_2)) g_1) KX) : zCal X (d + 1) yX3_before wX3_before [.ref a0] g K KX := by
  refine z_enter hok pn_X3 (Nat.le_of_ble_eq_true rfl) (fun E C hQ => ?_)
  have C : zC X (d + 1) E RX3 cX3_before 1 (some .int) "before" := C
  show GW X E 1 g 0 [(0, .ref a0)] []
  intro H locs ls hR hS hl
  refine lv_aload_n C.x C.b dX3_before_0 rfl (lv_at hl 0 rfl) ?_
  refine lv_iconst (v := 5) C.x C.b dX3_before_1 (by decide) ?_
  refine lv_iconst (v := 1) C.x C.b dX3_before_2 (by decide) ?_
  refine z_callV C hR hS hl (n := 2) (C1 := RX3) (T := TX3) (N := 35) (ci := 3) (y := yX3_joins) (bytes := cX3_joins) (maxL := 3) (rt := (some .int)) (As := [.int 5, .int 1]) (rest := []) h.1 rfl (lw_V q1893 q1895 qs51 q82 q1896) hdV_X3_joins (by decide) rfl rfl (Nat.le_of_ble_eq_true rfl) dX3_before_3 h.2 (fun r g_1 hk_ => ?_) (fun x g1 h => z_out C hQ h)
  clear h; obtain ⟨v_2, rfl, h⟩ := hk_
  show GW X E 1 g_1 6 [(0, .ref a0)] [.int v_2]
  intro H locs ls hR hS hl
  exact z_iret C hQ dX3_before_6 h H locs ls hR hS hl
set_option maxHeartbeats 4000000 in
theorem mX3_isBound {X : zX} {d : Nat} {g : zG} {K : Option Value → zG → Prop} {KX : String → zG → Prop} (hok : zOk X) (x0 : Int32) (h : zCal X d yX3_in wX3_in [.int x0, .int (-1), .int 1000] g (fun r g_1 => ∃ v_2 : Int32, r = some (.int v_2) ∧ zbo v_2 ∧ zbo v_2 ∧ K (some (.int v_2)) g_1) KX) : zCal X (d + 1) yX3_isBound wX3_isBound [.int x0] g K KX := by
  refine z_enter hok pn_X3 (Nat.le_of_ble_eq_true rfl) (fun E C hQ => ?_)
  have C : zC X (d + 1) E RX3 cX3_isBound 1 (some .boolean) "isBound" := C
  show GW X E 1 g 0 [(0, .int x0)] []
  intro H locs ls hR hS hl
  refine lv_iload_n C.x C.b dX3_isBound_0 rfl (lv_at hl 0 rfl) ?_
  refine lv_iconst (v := (-1)) C.x C.b dX3_isBound_1 (by decide) ?_
  refine lv_sipush (v := 1000) C.x C.b dX3_isBound_2 (by decide) ?_
  refine z_callS C hR hS hl (n := 3) (y := yX3_in) (bytes := cX3_in) (maxL := 3) (rt := (some .boolean)) (As := [.int x0, .int (-1), .int 1000]) (rest := []) (lw_S q1755 q1756 q82 q1757) hdS_X3_in (by decide) rfl rfl (Nat.le_of_ble_eq_true rfl) dX3_isBound_5 h (fun r g_1 hk_ => ?_) (fun x g1 h => z_out C hQ h)
  clear h; obtain ⟨v_2, rfl, zb_, h⟩ := hk_
  show GW X E 1 g_1 8 [(0, .int x0)] [.int v_2]
  intro H locs ls hR hS hl
  exact z_zret C hQ (zbo_n h.1) dX3_isBound_8 h.2 H locs ls hR hS hl
theorem hdS_X3_isBound : yX3_isBound.cls ≠ "java/lang/invoke/MethodHandle" ∧ yX3_isBound.cls ≠ "java/lang/invoke/VarHandle" ∧ (parseMethodDescriptor yX3_isBound.desc).map (fun d => d.parameters.length) = some 1 := by decide +kernel
set_option maxHeartbeats 4000000 in
theorem mX3_binds {X : zX} {d : Nat} {g : zG} {K : Option Value → zG → Prop} {KX : String → zG → Prop} (hok : zOk X) (a0 : Nat) (x1 : Int32) (x2 : Int32) (x3 : Int32) (h : zCal X d yX3_isBound wX3_isBound [.int x3] g (fun r g_1 => ∃ v_2 : Int32, r = some (.int v_2) ∧ zbo v_2 ∧ zIs g_1 3 a0 ∧ zCal X d yX3_canMake wX3_canMake [.ref a0, .int x2] g_1 (fun r g_3 => ∃ v_4 : Int32, r = some (.int v_4) ∧ zbo v_4 ∧ zIs g_3 3 a0 ∧ zCal X d yX3_goes wX3_goes [.ref a0, .int v_2, .int v_4, .int 1] g_3 (fun r g_5 => ∃ v_6 : Int32, r = some (.int v_6) ∧ zbo v_6 ∧ (v_6 = 0 → K (some (.int 0)) g_5) ∧ (¬ v_6 = 0 → zIs g_5 3 a0 ∧ zCal X d yX3_makes wX3_makes [.ref a0, .int x1, .int x2, .int 0, .int x3] g_5 (fun r g_7 => ∃ v_8 : Int32, r = some (.int v_8) ∧ K (some (.int v_8)) g_7) KX)) KX) KX) KX) : zCal X (d + 1) yX3_binds wX3_binds [.ref a0, .int x1, .int x2, .int x3] g K KX := by
  refine z_enter hok pn_X3 (Nat.le_of_ble_eq_true rfl) (fun E C hQ => ?_)
  have C : zC X (d + 1) E RX3 cX3_binds 4 (some .int) "binds" := C
  show GW X E 4 g 0 [(0, .ref a0), (1, .int x1), (2, .int x2), (3, .int x3)] []
  intro H locs ls hR hS hl
  refine lv_aload_n C.x C.b dX3_binds_0 rfl (lv_at hl 0 rfl) ?_
  refine lv_iload_n C.x C.b dX3_binds_1 rfl (lv_at hl 3 rfl) ?_
  refine z_callS C hR hS hl (n := 1) (y := yX3_isBound) (bytes := cX3_isBound) (maxL := 1) (rt := (some .boolean)) (As := [.int x3]) (rest := [.ref a0]) (lw_S q1925 q1926 q82 q1927) hdS_X3_isBound (by decide) rfl rfl (Nat.le_of_ble_eq_true rfl) dX3_binds_2 h (fun r g_1 hk_ => ?_) (fun x g1 h => z_out C hQ h)
  clear h; obtain ⟨v_2, rfl, zb_, h⟩ := hk_
  show GW X E 4 g_1 5 [(0, .ref a0), (1, .int x1), (2, .int x2), (3, .int x3)] [.int v_2, .ref a0]
  intro H locs ls hR hS hl
  refine lv_aload_n C.x C.b dX3_binds_5 rfl (lv_at hl 0 rfl) ?_
  refine lv_iload_n C.x C.b dX3_binds_6 rfl (lv_at hl 2 rfl) ?_
  refine z_callV C hR hS hl (n := 1) (C1 := RX3) (T := TX3) (N := 35) (ci := 3) (y := yX3_canMake) (bytes := cX3_canMake) (maxL := 4) (rt := (some .boolean)) (As := [.int x2]) (rest := [.int v_2, .ref a0]) h.1 rfl (lw_V q1897 q1899 qs52 q82 q1900) hdV_X3_canMake (by decide) rfl rfl (Nat.le_of_ble_eq_true rfl) dX3_binds_7 h.2 (fun r g_3 hk_ => ?_) (fun x g1 h => z_out C hQ h)
  clear h; obtain ⟨v_4, rfl, zb_, h⟩ := hk_
  show GW X E 4 g_3 10 [(0, .ref a0), (1, .int x1), (2, .int x2), (3, .int x3)] [.int v_4, .int v_2, .ref a0]
  intro H locs ls hR hS hl
  refine lv_iconst (v := 1) C.x C.b dX3_binds_10 (by decide) ?_
  refine z_callV C hR hS hl (n := 3) (C1 := RX3) (T := TX3) (N := 35) (ci := 3) (y := yX3_goes) (bytes := cX3_goes) (maxL := 4) (rt := (some .boolean)) (As := [.int v_2, .int v_4, .int 1]) (rest := []) h.1 rfl (lw_V q1758 q1760 qs28 q82 q1761) hdV_X3_goes (by decide) rfl rfl (Nat.le_of_ble_eq_true rfl) dX3_binds_11 h.2 (fun r g_5 hk_ => ?_) (fun x g1 h => z_out C hQ h)
  clear h; obtain ⟨v_6, rfl, zb_, h⟩ := hk_
  show GW X E 4 g_5 14 [(0, .ref a0), (1, .int x1), (2, .int x2), (3, .int x3)] [.int v_6]
  intro H locs ls hR hS hl
  obtain ⟨h1, h2⟩ := h
  refine lv_if_eq (tgt := 28) C.x C.b dX3_binds_14 (by decide) (fun c => ?_) (fun c => ?_)
  · have h := h1 c; clear h1 h2
    refine lv_iconst (v := 0) C.x C.b dX3_binds_28 (by decide) ?_
    exact z_iret C hQ dX3_binds_29 h H locs ls hR hS hl
  · have h := h2 c; clear h1 h2
    refine lv_aload_n C.x C.b dX3_binds_17 rfl (lv_at hl 0 rfl) ?_
    refine lv_iload_n C.x C.b dX3_binds_18 rfl (lv_at hl 1 rfl) ?_
    refine lv_iload_n C.x C.b dX3_binds_19 rfl (lv_at hl 2 rfl) ?_
    refine lv_iconst (v := 0) C.x C.b dX3_binds_20 (by decide) ?_
    refine lv_iload_n C.x C.b dX3_binds_21 rfl (lv_at hl 3 rfl) ?_
    refine z_callV C hR hS hl (n := 4) (C1 := RX3) (T := TX3) (N := 35) (ci := 3) (y := yX3_makes) (bytes := cX3_makes) (maxL := 7) (rt := (some .int)) (As := [.int x1, .int x2, .int 0, .int x3]) (rest := []) h.1 rfl (lw_V q1901 q1903 qs53 q82 q1904) hdV_X3_makes (by decide) rfl rfl (Nat.le_of_ble_eq_true rfl) dX3_binds_22 h.2 (fun r g_7 hk_ => ?_) (fun x g1 h => z_out C hQ h)
    clear h; obtain ⟨v_8, rfl, h⟩ := hk_
    show GW X E 4 g_7 25 [(0, .ref a0), (1, .int x1), (2, .int x2), (3, .int x3)] [.int v_8]
    intro H locs ls hR hS hl
    refine lv_goto (tgt := 29) C.x C.b dX3_binds_25 (by decide) ?_
    exact z_iret C hQ dX3_binds_29 h H locs ls hR hS hl
theorem hdV_X3_binds : yX3_binds.cls = RX3 ∧ yX3_binds.cls ≠ "java/lang/invoke/MethodHandle" ∧ yX3_binds.cls ≠ "java/lang/invoke/VarHandle" ∧ (parseMethodDescriptor yX3_binds.desc).map (fun d => d.parameters.length) = some 3 := by decide +kernel
set_option maxHeartbeats 4000000 in
theorem mX3_since {X : zX} {d : Nat} {g : zG} {K : Option Value → zG → Prop} {KX : String → zG → Prop} (hok : zOk X) (a0 : Nat) (x1 : Int32) (h : zIs g 3 a0 ∧ zCal X d yX3_binds wX3_binds [.ref a0, .int 6, .int 2, .int x1] g (fun r g_1 => ∃ v_2 : Int32, r = some (.int v_2) ∧ K (some (.int v_2)) g_1) KX) : zCal X (d + 1) yX3_since wX3_since [.ref a0, .int x1] g K KX := by
  refine z_enter hok pn_X3 (Nat.le_of_ble_eq_true rfl) (fun E C hQ => ?_)
  have C : zC X (d + 1) E RX3 cX3_since 2 (some .int) "since" := C
  show GW X E 2 g 0 [(0, .ref a0), (1, .int x1)] []
  intro H locs ls hR hS hl
  refine lv_aload_n C.x C.b dX3_since_0 rfl (lv_at hl 0 rfl) ?_
  refine lv_bipush (v := 6) C.x C.b dX3_since_1 (by decide) ?_
  refine lv_iconst (v := 2) C.x C.b dX3_since_3 (by decide) ?_
  refine lv_iload_n C.x C.b dX3_since_4 rfl (lv_at hl 1 rfl) ?_
  refine z_callV C hR hS hl (n := 3) (C1 := RX3) (T := TX3) (N := 35) (ci := 3) (y := yX3_binds) (bytes := cX3_binds) (maxL := 4) (rt := (some .int)) (As := [.int 6, .int 2, .int x1]) (rest := []) h.1 rfl (lw_V q1921 q1923 qs54 q82 q1924) hdV_X3_binds (by decide) rfl rfl (Nat.le_of_ble_eq_true rfl) dX3_since_5 h.2 (fun r g_1 hk_ => ?_) (fun x g1 h => z_out C hQ h)
  clear h; obtain ⟨v_2, rfl, h⟩ := hk_
  show GW X E 2 g_1 8 [(0, .ref a0), (1, .int x1)] [.int v_2]
  intro H locs ls hR hS hl
  exact z_iret C hQ dX3_since_8 h H locs ls hR hS hl
set_option maxHeartbeats 4000000 in
theorem mX3_once {X : zX} {d : Nat} {g : zG} {K : Option Value → zG → Prop} {KX : String → zG → Prop} (hok : zOk X) (a0 : Nat) (x1 : Int32) (h : zIs g 3 a0 ∧ zCal X d yX3_binds wX3_binds [.ref a0, .int 7, .int 1, .int x1] g (fun r g_1 => ∃ v_2 : Int32, r = some (.int v_2) ∧ K (some (.int v_2)) g_1) KX) : zCal X (d + 1) yX3_once wX3_once [.ref a0, .int x1] g K KX := by
  refine z_enter hok pn_X3 (Nat.le_of_ble_eq_true rfl) (fun E C hQ => ?_)
  have C : zC X (d + 1) E RX3 cX3_once 2 (some .int) "once" := C
  show GW X E 2 g 0 [(0, .ref a0), (1, .int x1)] []
  intro H locs ls hR hS hl
  refine lv_aload_n C.x C.b dX3_once_0 rfl (lv_at hl 0 rfl) ?_
  refine lv_bipush (v := 7) C.x C.b dX3_once_1 (by decide) ?_
  refine lv_iconst (v := 1) C.x C.b dX3_once_3 (by decide) ?_
  refine lv_iload_n C.x C.b dX3_once_4 rfl (lv_at hl 1 rfl) ?_
  refine z_callV C hR hS hl (n := 3) (C1 := RX3) (T := TX3) (N := 35) (ci := 3) (y := yX3_binds) (bytes := cX3_binds) (maxL := 4) (rt := (some .int)) (As := [.int 7, .int 1, .int x1]) (rest := []) h.1 rfl (lw_V q1921 q1923 qs54 q82 q1924) hdV_X3_binds (by decide) rfl rfl (Nat.le_of_ble_eq_true rfl) dX3_once_5 h.2 (fun r g_1 hk_ => ?_) (fun x g1 h => z_out C hQ h)
  clear h; obtain ⟨v_2, rfl, h⟩ := hk_
  show GW X E 2 g_1 8 [(0, .ref a0), (1, .int x1)] [.int v_2]
  intro H locs ls hR hS hl
  exact z_iret C hQ dX3_once_8 h H locs ls hR hS hl
set_option maxHeartbeats 4000000 in
theorem mX3_next {X : zX} {d : Nat} {g : zG} {K : Option Value → zG → Prop} {KX : String → zG → Prop} (hok : zOk X) (a0 : Nat) (h : zIs g 3 a0 ∧ zCal X d yX3_joins wX3_joins [.ref a0, .int 8, .int 1] g (fun r g_1 => ∃ v_2 : Int32, r = some (.int v_2) ∧ K (some (.int v_2)) g_1) KX) : zCal X (d + 1) yX3_next wX3_next [.ref a0] g K KX := by
  refine z_enter hok pn_X3 (Nat.le_of_ble_eq_true rfl) (fun E C hQ => ?_)
  have C : zC X (d + 1) E RX3 cX3_next 1 (some .int) "next" := C
  show GW X E 1 g 0 [(0, .ref a0)] []
  intro H locs ls hR hS hl
  refine lv_aload_n C.x C.b dX3_next_0 rfl (lv_at hl 0 rfl) ?_
  refine lv_bipush (v := 8) C.x C.b dX3_next_1 (by decide) ?_
  refine lv_iconst (v := 1) C.x C.b dX3_next_3 (by decide) ?_
  refine z_callV C hR hS hl (n := 2) (C1 := RX3) (T := TX3) (N := 35) (ci := 3) (y := yX3_joins) (bytes := cX3_joins) (maxL := 3) (rt := (some .int)) (As := [.int 8, .int 1]) (rest := []) h.1 rfl (lw_V q1893 q1895 qs51 q82 q1896) hdV_X3_joins (by decide) rfl rfl (Nat.le_of_ble_eq_true rfl) dX3_next_4 h.2 (fun r g_1 hk_ => ?_) (fun x g1 h => z_out C hQ h)
  clear h; obtain ⟨v_2, rfl, h⟩ := hk_
  show GW X E 1 g_1 7 [(0, .ref a0)] [.int v_2]
  intro H locs ls hR hS hl
  exact z_iret C hQ dX3_next_7 h H locs ls hR hS hl
set_option maxHeartbeats 4000000 in
theorem mX3_until {X : zX} {d : Nat} {g : zG} {K : Option Value → zG → Prop} {KX : String → zG → Prop} (hok : zOk X) (a0 : Nat) (x1 : Int32) (h : zIs g 3 a0 ∧ zCal X d yX3_binds wX3_binds [.ref a0, .int 9, .int 2, .int x1] g (fun r g_1 => ∃ v_2 : Int32, r = some (.int v_2) ∧ K (some (.int v_2)) g_1) KX) : zCal X (d + 1) yX3_until wX3_until [.ref a0, .int x1] g K KX := by
  refine z_enter hok pn_X3 (Nat.le_of_ble_eq_true rfl) (fun E C hQ => ?_)
  have C : zC X (d + 1) E RX3 cX3_until 2 (some .int) "until" := C
  show GW X E 2 g 0 [(0, .ref a0), (1, .int x1)] []
  intro H locs ls hR hS hl
  refine lv_aload_n C.x C.b dX3_until_0 rfl (lv_at hl 0 rfl) ?_
  refine lv_bipush (v := 9) C.x C.b dX3_until_1 (by decide) ?_
  refine lv_iconst (v := 2) C.x C.b dX3_until_3 (by decide) ?_
  refine lv_iload_n C.x C.b dX3_until_4 rfl (lv_at hl 1 rfl) ?_
  refine z_callV C hR hS hl (n := 3) (C1 := RX3) (T := TX3) (N := 35) (ci := 3) (y := yX3_binds) (bytes := cX3_binds) (maxL := 4) (rt := (some .int)) (As := [.int 9, .int 2, .int x1]) (rest := []) h.1 rfl (lw_V q1921 q1923 qs54 q82 q1924) hdV_X3_binds (by decide) rfl rfl (Nat.le_of_ble_eq_true rfl) dX3_until_5 h.2 (fun r g_1 hk_ => ?_) (fun x g1 h => z_out C hQ h)
  clear h; obtain ⟨v_2, rfl, h⟩ := hk_
  show GW X E 2 g_1 8 [(0, .ref a0), (1, .int x1)] [.int v_2]
  intro H locs ls hR hS hl
  exact z_iret C hQ dX3_until_8 h H locs ls hR hS hl
set_option maxHeartbeats 4000000 in
theorem mX3_soon {X : zX} {d : Nat} {g : zG} {K : Option Value → zG → Prop} {KX : String → zG → Prop} (hok : zOk X) (a0 : Nat) (x1 : Int32) (h : zIs g 3 a0 ∧ zCal X d yX3_binds wX3_binds [.ref a0, .int 10, .int 1, .int x1] g (fun r g_1 => ∃ v_2 : Int32, r = some (.int v_2) ∧ K (some (.int v_2)) g_1) KX) : zCal X (d + 1) yX3_soon wX3_soon [.ref a0, .int x1] g K KX := by
  refine z_enter hok pn_X3 (Nat.le_of_ble_eq_true rfl) (fun E C hQ => ?_)
  have C : zC X (d + 1) E RX3 cX3_soon 2 (some .int) "soon" := C
  show GW X E 2 g 0 [(0, .ref a0), (1, .int x1)] []
  intro H locs ls hR hS hl
  refine lv_aload_n C.x C.b dX3_soon_0 rfl (lv_at hl 0 rfl) ?_
  refine lv_bipush (v := 10) C.x C.b dX3_soon_1 (by decide) ?_
  refine lv_iconst (v := 1) C.x C.b dX3_soon_3 (by decide) ?_
  refine lv_iload_n C.x C.b dX3_soon_4 rfl (lv_at hl 1 rfl) ?_
  refine z_callV C hR hS hl (n := 3) (C1 := RX3) (T := TX3) (N := 35) (ci := 3) (y := yX3_binds) (bytes := cX3_binds) (maxL := 4) (rt := (some .int)) (As := [.int 10, .int 1, .int x1]) (rest := []) h.1 rfl (lw_V q1921 q1923 qs54 q82 q1924) hdV_X3_binds (by decide) rfl rfl (Nat.le_of_ble_eq_true rfl) dX3_soon_5 h.2 (fun r g_1 hk_ => ?_) (fun x g1 h => z_out C hQ h)
  clear h; obtain ⟨v_2, rfl, h⟩ := hk_
  show GW X E 2 g_1 8 [(0, .ref a0), (1, .int x1)] [.int v_2]
  intro H locs ls hR hS hl
  exact z_iret C hQ dX3_soon_8 h H locs ls hR hS hl
set_option maxHeartbeats 4000000 in
theorem bX3_many_22 {X : zX} {d : Nat} {E : zM} {K : Option Value → zG → Prop} {KX : String → zG → Prop} (C : zC X (d + 1) E RX3 cX3_many 3 (some .int) "many") (hQ : zQ X E K KX) (g : zG) (a0 : Nat) (x1 : Int32) (x2 : Int32) (b0 : Nat) (h : GW X E 3 g 23 [(0, .ref a0), (1, .int x1), (2, .int x2)] [.int 0, .ref b0]) : GW X E 3 g 22 [(0, .ref a0), (1, .int x1), (2, .int x2)] [.ref b0] := by
  intro H locs ls hR hS hl
  refine lv_iconst (v := 0) C.x C.b dX3_many_22 (by decide) ?_
  exact h H locs ls hR hS (lv_sub hl [0, 1, 2] rfl)
set_option maxHeartbeats 4000000 in
theorem bX3_many_23 {X : zX} {d : Nat} {E : zM} {K : Option Value → zG → Prop} {KX : String → zG → Prop} (C : zC X (d + 1) E RX3 cX3_many 3 (some .int) "many") (hQ : zQ X E K KX) (g : zG) (a0 : Nat) (x1 : Int32) (x2 : Int32) (b0 : Nat) (t1 : Int32) (h : zIs g 3 a0 ∧ zCal X d yX3_canMake wX3_canMake [.ref a0, .int 1] g (fun r g_1 => ∃ v_2 : Int32, r = some (.int v_2) ∧ zbo v_2 ∧ zIs g_1 3 b0 ∧ zCal X d yX3_goes wX3_goes [.ref b0, .int t1, .int v_2, .int 1] g_1 (fun r g_3 => ∃ v_4 : Int32, r = some (.int v_4) ∧ zbo v_4 ∧ (v_4 = 0 → K (some (.int 0)) g_3) ∧ (¬ v_4 = 0 → zIs g_3 3 a0 ∧ zCal X d yX3_makes wX3_makes [.ref a0, .int 11, .int 1, .int x1, .int x2] g_3 (fun r g_5 => ∃ v_6 : Int32, r = some (.int v_6) ∧ K (some (.int v_6)) g_5) KX)) KX) KX) : GW X E 3 g 23 [(0, .ref a0), (1, .int x1), (2, .int x2)] [.int t1, .ref b0] := by
  intro H locs ls hR hS hl
  refine lv_aload_n C.x C.b dX3_many_23 rfl (lv_at hl 0 rfl) ?_
  refine lv_iconst (v := 1) C.x C.b dX3_many_24 (by decide) ?_
  refine z_callV C hR hS hl (n := 1) (C1 := RX3) (T := TX3) (N := 35) (ci := 3) (y := yX3_canMake) (bytes := cX3_canMake) (maxL := 4) (rt := (some .boolean)) (As := [.int 1]) (rest := [.int t1, .ref b0]) h.1 rfl (lw_V q1897 q1899 qs52 q82 q1900) hdV_X3_canMake (by decide) rfl rfl (Nat.le_of_ble_eq_true rfl) dX3_many_25 h.2 (fun r g_1 hk_ => ?_) (fun x g1 h => z_out C hQ h)
  clear h; obtain ⟨v_2, rfl, zb_, h⟩ := hk_
  show GW X E 3 g_1 28 [(0, .ref a0), (1, .int x1), (2, .int x2)] [.int v_2, .int t1, .ref b0]
  intro H locs ls hR hS hl
  refine lv_iconst (v := 1) C.x C.b dX3_many_28 (by decide) ?_
  refine z_callV C hR hS hl (n := 3) (C1 := RX3) (T := TX3) (N := 35) (ci := 3) (y := yX3_goes) (bytes := cX3_goes) (maxL := 4) (rt := (some .boolean)) (As := [.int t1, .int v_2, .int 1]) (rest := []) h.1 rfl (lw_V q1758 q1760 qs28 q82 q1761) hdV_X3_goes (by decide) rfl rfl (Nat.le_of_ble_eq_true rfl) dX3_many_29 h.2 (fun r g_3 hk_ => ?_) (fun x g1 h => z_out C hQ h)
  clear h; obtain ⟨v_4, rfl, zb_, h⟩ := hk_
  show GW X E 3 g_3 32 [(0, .ref a0), (1, .int x1), (2, .int x2)] [.int v_4]
  intro H locs ls hR hS hl
  obtain ⟨h1, h2⟩ := h
  refine lv_if_eq (tgt := 47) C.x C.b dX3_many_32 (by decide) (fun c => ?_) (fun c => ?_)
  · have h := h1 c; clear h1 h2
    refine lv_iconst (v := 0) C.x C.b dX3_many_47 (by decide) ?_
    exact z_iret C hQ dX3_many_48 h H locs ls hR hS hl
  · have h := h2 c; clear h1 h2
    refine lv_aload_n C.x C.b dX3_many_35 rfl (lv_at hl 0 rfl) ?_
    refine lv_bipush (v := 11) C.x C.b dX3_many_36 (by decide) ?_
    refine lv_iconst (v := 1) C.x C.b dX3_many_38 (by decide) ?_
    refine lv_iload_n C.x C.b dX3_many_39 rfl (lv_at hl 1 rfl) ?_
    refine lv_iload_n C.x C.b dX3_many_40 rfl (lv_at hl 2 rfl) ?_
    refine z_callV C hR hS hl (n := 4) (C1 := RX3) (T := TX3) (N := 35) (ci := 3) (y := yX3_makes) (bytes := cX3_makes) (maxL := 7) (rt := (some .int)) (As := [.int 11, .int 1, .int x1, .int x2]) (rest := []) h.1 rfl (lw_V q1901 q1903 qs53 q82 q1904) hdV_X3_makes (by decide) rfl rfl (Nat.le_of_ble_eq_true rfl) dX3_many_41 h.2 (fun r g_5 hk_ => ?_) (fun x g1 h => z_out C hQ h)
    clear h; obtain ⟨v_6, rfl, h⟩ := hk_
    show GW X E 3 g_5 44 [(0, .ref a0), (1, .int x1), (2, .int x2)] [.int v_6]
    intro H locs ls hR hS hl
    refine lv_goto (tgt := 48) C.x C.b dX3_many_44 (by decide) ?_
    exact z_iret C hQ dX3_many_48 h H locs ls hR hS hl
set_option maxHeartbeats 4000000 in
theorem mX3_many {X : zX} {d : Nat} {g : zG} {K : Option Value → zG → Prop} {KX : String → zG → Prop} (hok : zOk X) (a0 : Nat) (x1 : Int32) (x2 : Int32) (h : ∀ E : zM, zC X (d + 1) E RX3 cX3_many 3 (some .int) "many" → zQ X E K KX → zCal X d yX3_in wX3_in [.int x1, .int 1, .int 80] g (fun r g_1 => ∃ v_2 : Int32, r = some (.int v_2) ∧ zbo v_2 ∧ (v_2 = 0 → GW X E 3 g_1 22 [(0, .ref a0), (1, .int x1), (2, .int x2)] [.ref a0]) ∧ (¬ v_2 = 0 → zCal X d yX3_isBound wX3_isBound [.int x2] g_1 (fun r g_3 => ∃ v_4 : Int32, r = some (.int v_4) ∧ zbo v_4 ∧ (v_4 = 0 → GW X E 3 g_3 22 [(0, .ref a0), (1, .int x1), (2, .int x2)] [.ref a0]) ∧ (¬ v_4 = 0 → GW X E 3 g_3 23 [(0, .ref a0), (1, .int x1), (2, .int x2)] [.int 1, .ref a0])) KX)) KX) : zCal X (d + 1) yX3_many wX3_many [.ref a0, .int x1, .int x2] g K KX := by
  refine z_enter hok pn_X3 (Nat.le_of_ble_eq_true rfl) (fun E C hQ => ?_)
  have C : zC X (d + 1) E RX3 cX3_many 3 (some .int) "many" := C
  have h := h E C hQ
  show GW X E 3 g 0 [(0, .ref a0), (1, .int x1), (2, .int x2)] []
  intro H locs ls hR hS hl
  refine lv_aload_n C.x C.b dX3_many_0 rfl (lv_at hl 0 rfl) ?_
  refine lv_iload_n C.x C.b dX3_many_1 rfl (lv_at hl 1 rfl) ?_
  refine lv_iconst (v := 1) C.x C.b dX3_many_2 (by decide) ?_
  refine lv_bipush (v := 80) C.x C.b dX3_many_3 (by decide) ?_
  refine z_callS C hR hS hl (n := 3) (y := yX3_in) (bytes := cX3_in) (maxL := 3) (rt := (some .boolean)) (As := [.int x1, .int 1, .int 80]) (rest := [.ref a0]) (lw_S q1755 q1756 q82 q1757) hdS_X3_in (by decide) rfl rfl (Nat.le_of_ble_eq_true rfl) dX3_many_5 h (fun r g_1 hk_ => ?_) (fun x g1 h => z_out C hQ h)
  clear h; obtain ⟨v_2, rfl, zb_, h⟩ := hk_
  show GW X E 3 g_1 8 [(0, .ref a0), (1, .int x1), (2, .int x2)] [.int v_2, .ref a0]
  intro H locs ls hR hS hl
  obtain ⟨h1, h2⟩ := h
  refine lv_if_eq (tgt := 22) C.x C.b dX3_many_8 (by decide) (fun c => ?_) (fun c => ?_)
  · have h := h1 c; clear h1 h2
    exact h H locs ls hR hS (lv_sub hl [0, 1, 2] rfl)
  · have h := h2 c; clear h1 h2
    refine lv_iload_n C.x C.b dX3_many_11 rfl (lv_at hl 2 rfl) ?_
    refine z_callS C hR hS hl (n := 1) (y := yX3_isBound) (bytes := cX3_isBound) (maxL := 1) (rt := (some .boolean)) (As := [.int x2]) (rest := [.ref a0]) (lw_S q1925 q1926 q82 q1927) hdS_X3_isBound (by decide) rfl rfl (Nat.le_of_ble_eq_true rfl) dX3_many_12 h (fun r g_3 hk_ => ?_) (fun x g1 h => z_out C hQ h)
    clear h; obtain ⟨v_4, rfl, zb_, h⟩ := hk_
    show GW X E 3 g_3 15 [(0, .ref a0), (1, .int x1), (2, .int x2)] [.int v_4, .ref a0]
    intro H locs ls hR hS hl
    obtain ⟨h1, h2⟩ := h
    refine lv_if_eq (tgt := 22) C.x C.b dX3_many_15 (by decide) (fun c => ?_) (fun c => ?_)
    · have h := h1 c; clear h1 h2
      exact h H locs ls hR hS (lv_sub hl [0, 1, 2] rfl)
    · have h := h2 c; clear h1 h2
      refine lv_iconst (v := 1) C.x C.b dX3_many_18 (by decide) ?_
      refine lv_goto (tgt := 23) C.x C.b dX3_many_19 (by decide) ?_
      exact h H locs ls hR hS (lv_sub hl [0, 1, 2] rfl)
set_option maxHeartbeats 4000000 in
theorem mX3_tells {X : zX} {d : Nat} {g : zG} {K : Option Value → zG → Prop} {KX : String → zG → Prop} (hok : zOk X) (a0 : Nat) (x1 : Int32) (h : ∃ (fs_1 : List Value), zGo g 3 a0 = some fs_1 ∧ 34 < fs_1.length ∧ ∀ g_2 : zG, g_2 = zSo g 3 a0 (fs_1.set 34 (.int 0)) → K (some (.int x1)) g_2) : zCal X d yX3_tells wX3_tells [.ref a0, .int x1] g K KX := by
  refine z_enter hok pn_X3 (Nat.le_of_ble_eq_true rfl) (fun E C hQ => ?_)
  have C : zC X d E RX3 cX3_tells 2 (some .int) "tells" := C
  show GW X E 2 g 0 [(0, .ref a0), (1, .int x1)] []
  intro H locs ls hR hS hl
  refine lv_aload_n C.x C.b dX3_tells_0 rfl (lv_at hl 0 rfl) ?_
  refine lv_iconst (v := 0) C.x C.b dX3_tells_1 (by decide) ?_
  obtain ⟨fs_1, q1, q2, h⟩ := h
  refine z_put C hR hS q1 rfl (ci := 3) rfl in_X3 tyX3 tyX3_ok nmX3 34 (by decide) q1671 (fun _ h => h) rfl ⟨rfl, rfl⟩ q2 dX3_tells_2 (fun H locs hR hS => ?_)
  have h := h _ rfl
  generalize zSo g 3 a0 (fs_1.set 34 (.int 0)) = g_2 at h hR
  refine lv_iload_n C.x C.b dX3_tells_5 rfl (lv_at hl 1 rfl) ?_
  exact z_iret C hQ dX3_tells_6 h H locs ls hR hS hl
theorem hdV_X3_tells : yX3_tells.cls = RX3 ∧ yX3_tells.cls ≠ "java/lang/invoke/MethodHandle" ∧ yX3_tells.cls ≠ "java/lang/invoke/VarHandle" ∧ (parseMethodDescriptor yX3_tells.desc).map (fun d => d.parameters.length) = some 1 := by decide +kernel
set_option maxHeartbeats 4000000 in
theorem mX3_scrap {X : zX} {d : Nat} {g : zG} {K : Option Value → zG → Prop} {KX : String → zG → Prop} (hok : zOk X) (a0 : Nat) (h : ∃ (fs_1 : List Value) (v_2 : Int32), zGo g 3 a0 = some fs_1 ∧ fs_1[13]? = some (.int v_2) ∧ ∃ (fs_3 : List Value), zGo g 3 a0 = some fs_3 ∧ 13 < fs_3.length ∧ ∀ g_4 : zG, g_4 = zSo g 3 a0 (fs_3.set 13 (.int 0)) → ∃ (fs_5 : List Value), zGo g_4 3 a0 = some fs_5 ∧ 15 < fs_5.length ∧ ∀ g_6 : zG, g_6 = zSo g_4 3 a0 (fs_5.set 15 (.int 0)) → zIs g_6 3 a0 ∧ zCal X d yX3_tells wX3_tells [.ref a0, .int v_2] g_6 (fun r g_7 => ∃ v_8 : Int32, r = some (.int v_8) ∧ K (some (.int v_8)) g_7) KX) : zCal X (d + 1) yX3_scrap wX3_scrap [.ref a0] g K KX := by
  refine z_enter hok pn_X3 (Nat.le_of_ble_eq_true rfl) (fun E C hQ => ?_)
  have C : zC X (d + 1) E RX3 cX3_scrap 2 (some .int) "scrap" := C
  show GW X E 2 g 0 [(0, .ref a0)] []
  intro H locs ls hR hS hl
  refine lv_aload_n C.x C.b dX3_scrap_0 rfl (lv_at hl 0 rfl) ?_
  obtain ⟨fs_1, v_2, q1, q2, h⟩ := h
  refine z_get C hR q1 rfl (ci := 3) rfl in_X3 13 (by decide) q1650 (fun _ h => h) q2 dX3_scrap_1 ?_
  refine lv_istore_n (lv' := [(1, .int v_2), (0, .ref a0)]) C.x C.b dX3_scrap_4 rfl hl (by decide) rfl (fun ls hl => ?_)
  refine lv_aload_n C.x C.b dX3_scrap_5 rfl (lv_at hl 1 rfl) ?_
  refine lv_iconst (v := 0) C.x C.b dX3_scrap_6 (by decide) ?_
  obtain ⟨fs_3, q1, q2, h⟩ := h
  refine z_put C hR hS q1 rfl (ci := 3) rfl in_X3 tyX3 tyX3_ok nmX3 13 (by decide) q1650 (fun _ h => h) rfl ⟨rfl, rfl⟩ q2 dX3_scrap_7 (fun H locs hR hS => ?_)
  have h := h _ rfl
  generalize zSo g 3 a0 (fs_3.set 13 (.int 0)) = g_4 at h hR
  refine lv_aload_n C.x C.b dX3_scrap_10 rfl (lv_at hl 1 rfl) ?_
  refine lv_iconst (v := 0) C.x C.b dX3_scrap_11 (by decide) ?_
  obtain ⟨fs_5, q1, q2, h⟩ := h
  refine z_put C hR hS q1 rfl (ci := 3) rfl in_X3 tyX3 tyX3_ok nmX3 15 (by decide) q1652 (fun _ h => h) rfl ⟨rfl, rfl⟩ q2 dX3_scrap_12 (fun H locs hR hS => ?_)
  have h := h _ rfl
  generalize zSo g_4 3 a0 (fs_5.set 15 (.int 0)) = g_6 at h hR
  refine lv_aload_n C.x C.b dX3_scrap_15 rfl (lv_at hl 1 rfl) ?_
  refine lv_iload_n C.x C.b dX3_scrap_16 rfl (lv_at hl 0 rfl) ?_
  refine z_callV C hR hS hl (n := 1) (C1 := RX3) (T := TX3) (N := 35) (ci := 3) (y := yX3_tells) (bytes := cX3_tells) (maxL := 2) (rt := (some .int)) (As := [.int v_2]) (rest := []) h.1 rfl (lw_V q1952 q1954 qs55 q82 q1955) hdV_X3_tells (by decide) rfl rfl (Nat.le_of_ble_eq_true rfl) dX3_scrap_17 h.2 (fun r g_7 hk_ => ?_) (fun x g1 h => z_out C hQ h)
  clear h; obtain ⟨v_8, rfl, h⟩ := hk_
  show GW X E 2 g_7 20 [(1, .int v_2), (0, .ref a0)] [.int v_8]
  intro H locs ls hR hS hl
  exact z_iret C hQ dX3_scrap_20 h H locs ls hR hS hl
set_option maxHeartbeats 4000000 in
theorem bX3_watch_35 {X : zX} {d : Nat} {E : zM} {K : Option Value → zG → Prop} {KX : String → zG → Prop} (C : zC X (d + 1) E RX3 cX3_watch 5 (some .int) "watch") (hQ : zQ X E K KX) (g : zG) (a0 : Nat) (x1 : Int32) (x2 : Int32) (x3 : Int32) (h : ∃ (fs_1 : List Value) (v_2 : Int32), zGo g 3 a0 = some fs_1 ∧ fs_1[15]? = some (.int v_2) ∧ (v_2 ≤ x3 → ∃ (fs_3 : List Value) (a_4 : Nat), zGo g 3 a0 = some fs_3 ∧ fs_3[23]? = some (.ref a_4) ∧ ∃ (fs_5 : List Value) (v_6 : Int32), zGo g 3 a0 = some fs_5 ∧ fs_5[20]? = some (.int v_6) ∧ ∃ (fs_7 : List Value) (v_8 : Int32), zGo g 3 a0 = some fs_7 ∧ fs_7[15]? = some (.int v_8) ∧ ∃ (n_9 : Nat) (f_10 : Nat → Int32), zGi g 23 a_4 = some (n_9, f_10) ∧ vp_in v_6 n_9 ∧ ∀ g_11 : zG, g_11 = zSi g 23 a_4 n_9 (upd f_10 v_6.toNatClampNeg v_8) → ∃ (fs_12 : List Value) (a_13 : Nat), zGo g_11 3 a0 = some fs_12 ∧ fs_12[21]? = some (.ref a_13) ∧ ∃ (fs_14 : List Value) (v_15 : Int32), zGo g_11 3 a0 = some fs_14 ∧ fs_14[20]? = some (.int v_15) ∧ ∃ (n_16 : Nat) (f_17 : Nat → Int32), zGi g_11 121 a_13 = some (n_16, f_17) ∧ vp_in v_15 n_16 ∧ ∀ g_18 : zG, g_18 = zSi g_11 121 a_13 n_16 (upd f_17 v_15.toNatClampNeg (vp_nar .boolean x1)) → ∃ (fs_19 : List Value) (a_20 : Nat), zGo g_18 3 a0 = some fs_19 ∧ fs_19[22]? = some (.ref a_20) ∧ ∃ (fs_21 : List Value) (v_22 : Int32), zGo g_18 3 a0 = some fs_21 ∧ fs_21[20]? = some (.int v_22) ∧ ∃ (n_23 : Nat) (f_24 : Nat → Int32), zGi g_18 122 a_20 = some (n_23, f_24) ∧ vp_in v_22 n_23 ∧ ∀ g_25 : zG, g_25 = zSi g_18 122 a_20 n_23 (upd f_24 v_22.toNatClampNeg (vp_nar .boolean x2)) → ∃ (fs_26 : List Value) (a_27 : Nat), zGo g_25 3 a0 = some fs_26 ∧ fs_26[24]? = some (.ref a_27) ∧ ∃ (fs_28 : List Value) (v_29 : Int32), zGo g_25 3 a0 = some fs_28 ∧ fs_28[20]? = some (.int v_29) ∧ ∃ (n_30 : Nat) (f_31 : Nat → Int32), zGi g_25 24 a_27 = some (n_30, f_31) ∧ vp_in v_29 n_30 ∧ ∀ g_32 : zG, g_32 = zSi g_25 24 a_27 n_30 (upd f_31 v_29.toNatClampNeg 0) → ∃ (fs_33 : List Value), zGo g_32 3 a0 = some fs_33 ∧ 13 < fs_33.length ∧ ∀ g_34 : zG, g_34 = zSo g_32 3 a0 (fs_33.set 13 (.int 0)) → ∃ (fs_35 : List Value), zGo g_34 3 a0 = some fs_35 ∧ 15 < fs_35.length ∧ ∀ g_36 : zG, g_36 = zSo g_34 3 a0 (fs_35.set 15 (.int 0)) → ∃ (fs_37 : List Value) (v_38 : Int32), zGo g_36 3 a0 = some fs_37 ∧ fs_37[20]? = some (.int v_38) ∧ ∃ (fs_39 : List Value), zGo g_36 3 a0 = some fs_39 ∧ 20 < fs_39.length ∧ ∀ g_40 : zG, g_40 = zSo g_36 3 a0 (fs_39.set 20 (.int (v_38 + 1))) → ∃ (fs_41 : List Value) (v_42 : Int32), zGo g_40 3 a0 = some fs_41 ∧ fs_41[20]? = some (.int v_42) ∧ zIs g_40 3 a0 ∧ zCal X d yX3_keeps wX3_keeps [.ref a0, .int (v_42 - 1), .int 0] g_40 (fun r g_43 => ∃ v_44 : Int32, r = some (.int v_44) ∧ ∃ (fs_45 : List Value) (v_46 : Int32), zGo g_43 3 a0 = some fs_45 ∧ fs_45[20]? = some (.int v_46) ∧ K (some (.int (v_46 - 1))) g_43) KX) ∧ (¬ v_2 ≤ x3 → ∃ (fs_47 : List Value) (v_48 : Int32), zGo g 3 a0 = some fs_47 ∧ fs_47[20]? = some (.int v_48) ∧ zCal X d yX3_fromOf wX3_fromOf [.int v_48] g (fun r g_49 => ∃ v_50 : Int32, r = some (.int v_50) ∧ ∃ (fs_51 : List Value) (a_52 : Nat), zGo g_49 3 a0 = some fs_51 ∧ fs_51[16]? = some (.ref a_52) ∧ ∃ (fs_53 : List Value) (a_54 : Nat), zGo g_49 3 a0 = some fs_53 ∧ fs_53[16]? = some (.ref a_54) ∧ ∃ (n_55 : Nat) (f_56 : Nat → Int32), zGi g_49 16 a_54 = some (n_55, f_56) ∧ vp_in x3 n_55 ∧ ∀ v_57 : Int32, v_57 = f_56 x3.toNatClampNeg → ∃ (n_58 : Nat) (f_59 : Nat → Int32), zGi g_49 16 a_52 = some (n_58, f_59) ∧ vp_in (v_50 + x3) n_58 ∧ ∀ g_60 : zG, g_60 = zSi g_49 16 a_52 n_58 (upd f_59 (v_50 + x3).toNatClampNeg v_57) → ∃ (fs_61 : List Value) (a_62 : Nat), zGo g_60 3 a0 = some fs_61 ∧ fs_61[17]? = some (.ref a_62) ∧ ∃ (fs_63 : List Value) (a_64 : Nat), zGo g_60 3 a0 = some fs_63 ∧ fs_63[17]? = some (.ref a_64) ∧ ∃ (n_65 : Nat) (f_66 : Nat → Int32), zGi g_60 17 a_64 = some (n_65, f_66) ∧ vp_in x3 n_65 ∧ ∀ v_67 : Int32, v_67 = f_66 x3.toNatClampNeg → ∃ (n_68 : Nat) (f_69 : Nat → Int32), zGi g_60 17 a_62 = some (n_68, f_69) ∧ vp_in (v_50 + x3) n_68 ∧ ∀ g_70 : zG, g_70 = zSi g_60 17 a_62 n_68 (upd f_69 (v_50 + x3).toNatClampNeg v_67) → ∃ (fs_71 : List Value) (a_72 : Nat), zGo g_70 3 a0 = some fs_71 ∧ fs_71[18]? = some (.ref a_72) ∧ ∃ (fs_73 : List Value) (a_74 : Nat), zGo g_70 3 a0 = some fs_73 ∧ fs_73[18]? = some (.ref a_74) ∧ ∃ (n_75 : Nat) (f_76 : Nat → Int32), zGi g_70 18 a_74 = some (n_75, f_76) ∧ vp_in x3 n_75 ∧ ∀ v_77 : Int32, v_77 = f_76 x3.toNatClampNeg → ∃ (n_78 : Nat) (f_79 : Nat → Int32), zGi g_70 18 a_72 = some (n_78, f_79) ∧ vp_in (v_50 + x3) n_78 ∧ ∀ g_80 : zG, g_80 = zSi g_70 18 a_72 n_78 (upd f_79 (v_50 + x3).toNatClampNeg v_77) → ∃ (fs_81 : List Value) (a_82 : Nat), zGo g_80 3 a0 = some fs_81 ∧ fs_81[19]? = some (.ref a_82) ∧ ∃ (fs_83 : List Value) (a_84 : Nat), zGo g_80 3 a0 = some fs_83 ∧ fs_83[19]? = some (.ref a_84) ∧ ∃ (n_85 : Nat) (f_86 : Nat → Int32), zGi g_80 19 a_84 = some (n_85, f_86) ∧ vp_in x3 n_85 ∧ ∀ v_87 : Int32, v_87 = f_86 x3.toNatClampNeg → ∃ (n_88 : Nat) (f_89 : Nat → Int32), zGi g_80 19 a_82 = some (n_88, f_89) ∧ vp_in (v_50 + x3) n_88 ∧ ∀ g_90 : zG, g_90 = zSi g_80 19 a_82 n_88 (upd f_89 (v_50 + x3).toNatClampNeg v_87) → GW X E 5 g_90 35 [(0, .ref a0), (1, .int x1), (2, .int x2), (3, .int (x3 + 1))] []) KX)) : GW X E 5 g 35 [(0, .ref a0), (1, .int x1), (2, .int x2), (3, .int x3)] [] := by
  intro H locs ls hR hS hl
  refine lv_iload_n C.x C.b dX3_watch_35 rfl (lv_at hl 3 rfl) ?_
  refine lv_aload_n C.x C.b dX3_watch_36 rfl (lv_at hl 0 rfl) ?_
  obtain ⟨fs_1, v_2, q1, q2, h⟩ := h
  refine z_get C hR q1 rfl (ci := 3) rfl in_X3 15 (by decide) q1652 (fun _ h => h) q2 dX3_watch_37 ?_
  obtain ⟨h1, h2⟩ := h
  refine lv_icmp_ge (tgt := 112) C.x C.b dX3_watch_40 (by decide) (fun c => ?_) (fun c => ?_)
  · have h := h1 c; clear h1 h2
    refine lv_aload_n C.x C.b dX3_watch_112 rfl (lv_at hl 0 rfl) ?_
    obtain ⟨fs_3, a_4, q1, q2, h⟩ := h
    refine z_get C hR q1 rfl (ci := 3) rfl in_X3 23 (by decide) q1660 (fun _ h => h) q2 dX3_watch_113 ?_
    refine lv_aload_n C.x C.b dX3_watch_116 rfl (lv_at hl 0 rfl) ?_
    obtain ⟨fs_5, v_6, q1, q2, h⟩ := h
    refine z_get C hR q1 rfl (ci := 3) rfl in_X3 20 (by decide) q1657 (fun _ h => h) q2 dX3_watch_117 ?_
    refine lv_aload_n C.x C.b dX3_watch_120 rfl (lv_at hl 0 rfl) ?_
    obtain ⟨fs_7, v_8, q1, q2, h⟩ := h
    refine z_get C hR q1 rfl (ci := 3) rfl in_X3 15 (by decide) q1652 (fun _ h => h) q2 dX3_watch_121 ?_
    obtain ⟨n_9, f_10, q1, q2, h⟩ := h
    refine z_iast C hR hS q1 (by decide) q2 dX3_watch_124 (fun H locs hR hS => ?_)
    have h := h _ rfl
    generalize zSi g 23 a_4 n_9 (upd f_10 v_6.toNatClampNeg v_8) = g_11 at h hR
    refine lv_aload_n C.x C.b dX3_watch_125 rfl (lv_at hl 0 rfl) ?_
    obtain ⟨fs_12, a_13, q1, q2, h⟩ := h
    refine z_get C hR q1 rfl (ci := 3) rfl in_X3 21 (by decide) q1658 (fun _ h => h) q2 dX3_watch_126 ?_
    refine lv_aload_n C.x C.b dX3_watch_129 rfl (lv_at hl 0 rfl) ?_
    obtain ⟨fs_14, v_15, q1, q2, h⟩ := h
    refine z_get C hR q1 rfl (ci := 3) rfl in_X3 20 (by decide) q1657 (fun _ h => h) q2 dX3_watch_130 ?_
    refine lv_iload_n C.x C.b dX3_watch_133 rfl (lv_at hl 1 rfl) ?_
    obtain ⟨n_16, f_17, q1, q2, h⟩ := h
    refine z_zast C hR hS q1 (by decide) q2 dX3_watch_134 (fun H locs hR hS => ?_)
    have h := h _ rfl
    generalize zSi g_11 121 a_13 n_16 (upd f_17 v_15.toNatClampNeg (vp_nar .boolean x1)) = g_18 at h hR
    refine lv_aload_n C.x C.b dX3_watch_135 rfl (lv_at hl 0 rfl) ?_
    obtain ⟨fs_19, a_20, q1, q2, h⟩ := h
    refine z_get C hR q1 rfl (ci := 3) rfl in_X3 22 (by decide) q1659 (fun _ h => h) q2 dX3_watch_136 ?_
    refine lv_aload_n C.x C.b dX3_watch_139 rfl (lv_at hl 0 rfl) ?_
    obtain ⟨fs_21, v_22, q1, q2, h⟩ := h
    refine z_get C hR q1 rfl (ci := 3) rfl in_X3 20 (by decide) q1657 (fun _ h => h) q2 dX3_watch_140 ?_
    refine lv_iload_n C.x C.b dX3_watch_143 rfl (lv_at hl 2 rfl) ?_
    obtain ⟨n_23, f_24, q1, q2, h⟩ := h
    refine z_zast C hR hS q1 (by decide) q2 dX3_watch_144 (fun H locs hR hS => ?_)
    have h := h _ rfl
    generalize zSi g_18 122 a_20 n_23 (upd f_24 v_22.toNatClampNeg (vp_nar .boolean x2)) = g_25 at h hR
    refine lv_aload_n C.x C.b dX3_watch_145 rfl (lv_at hl 0 rfl) ?_
    obtain ⟨fs_26, a_27, q1, q2, h⟩ := h
    refine z_get C hR q1 rfl (ci := 3) rfl in_X3 24 (by decide) q1661 (fun _ h => h) q2 dX3_watch_146 ?_
    refine lv_aload_n C.x C.b dX3_watch_149 rfl (lv_at hl 0 rfl) ?_
    obtain ⟨fs_28, v_29, q1, q2, h⟩ := h
    refine z_get C hR q1 rfl (ci := 3) rfl in_X3 20 (by decide) q1657 (fun _ h => h) q2 dX3_watch_150 ?_
    refine lv_iconst (v := 0) C.x C.b dX3_watch_153 (by decide) ?_
    obtain ⟨n_30, f_31, q1, q2, h⟩ := h
    refine z_iast C hR hS q1 (by decide) q2 dX3_watch_154 (fun H locs hR hS => ?_)
    have h := h _ rfl
    generalize zSi g_25 24 a_27 n_30 (upd f_31 v_29.toNatClampNeg 0) = g_32 at h hR
    refine lv_aload_n C.x C.b dX3_watch_155 rfl (lv_at hl 0 rfl) ?_
    refine lv_iconst (v := 0) C.x C.b dX3_watch_156 (by decide) ?_
    obtain ⟨fs_33, q1, q2, h⟩ := h
    refine z_put C hR hS q1 rfl (ci := 3) rfl in_X3 tyX3 tyX3_ok nmX3 13 (by decide) q1650 (fun _ h => h) rfl ⟨rfl, rfl⟩ q2 dX3_watch_157 (fun H locs hR hS => ?_)
    have h := h _ rfl
    generalize zSo g_32 3 a0 (fs_33.set 13 (.int 0)) = g_34 at h hR
    refine lv_aload_n C.x C.b dX3_watch_160 rfl (lv_at hl 0 rfl) ?_
    refine lv_iconst (v := 0) C.x C.b dX3_watch_161 (by decide) ?_
    obtain ⟨fs_35, q1, q2, h⟩ := h
    refine z_put C hR hS q1 rfl (ci := 3) rfl in_X3 tyX3 tyX3_ok nmX3 15 (by decide) q1652 (fun _ h => h) rfl ⟨rfl, rfl⟩ q2 dX3_watch_162 (fun H locs hR hS => ?_)
    have h := h _ rfl
    generalize zSo g_34 3 a0 (fs_35.set 15 (.int 0)) = g_36 at h hR
    refine lv_aload_n C.x C.b dX3_watch_165 rfl (lv_at hl 0 rfl) ?_
    refine lv_dup C.x C.b dX3_watch_166 rfl ?_
    obtain ⟨fs_37, v_38, q1, q2, h⟩ := h
    refine z_get C hR q1 rfl (ci := 3) rfl in_X3 20 (by decide) q1657 (fun _ h => h) q2 dX3_watch_167 ?_
    refine lv_iconst (v := 1) C.x C.b dX3_watch_170 (by decide) ?_
    refine lv_iadd C.x C.b dX3_watch_171 ?_
    obtain ⟨fs_39, q1, q2, h⟩ := h
    refine z_put C hR hS q1 rfl (ci := 3) rfl in_X3 tyX3 tyX3_ok nmX3 20 (by decide) q1657 (fun _ h => h) rfl ⟨rfl, rfl⟩ q2 dX3_watch_172 (fun H locs hR hS => ?_)
    have h := h _ rfl
    generalize zSo g_36 3 a0 (fs_39.set 20 (.int (v_38 + 1))) = g_40 at h hR
    refine lv_aload_n C.x C.b dX3_watch_175 rfl (lv_at hl 0 rfl) ?_
    refine lv_aload_n C.x C.b dX3_watch_176 rfl (lv_at hl 0 rfl) ?_
    obtain ⟨fs_41, v_42, q1, q2, h⟩ := h
    refine z_get C hR q1 rfl (ci := 3) rfl in_X3 20 (by decide) q1657 (fun _ h => h) q2 dX3_watch_177 ?_
    refine lv_iconst (v := 1) C.x C.b dX3_watch_180 (by decide) ?_
    refine lv_isub C.x C.b dX3_watch_181 ?_
    refine lv_iconst (v := 0) C.x C.b dX3_watch_182 (by decide) ?_
    refine z_callV C hR hS hl (n := 2) (C1 := RX3) (T := TX3) (N := 35) (ci := 3) (y := yX3_keeps) (bytes := cX3_keeps) (maxL := 7) (rt := (some .int)) (As := [.int (v_42 - 1), .int 0]) (rest := []) h.1 rfl (lw_V q1785 q1787 qs32 q82 q1788) hdV_X3_keeps (by decide) rfl rfl (Nat.le_of_ble_eq_true rfl) dX3_watch_183 h.2 (fun r g_43 hk_ => ?_) (fun x g1 h => z_out C hQ h)
    clear h; obtain ⟨v_44, rfl, h⟩ := hk_
    show GW X E 5 g_43 186 [(0, .ref a0), (1, .int x1), (2, .int x2), (3, .int x3)] [.int v_44]
    intro H locs ls hR hS hl
    refine lv_istore_n (lv' := [(3, .int v_44), (0, .ref a0), (1, .int x1), (2, .int x2)]) C.x C.b dX3_watch_186 rfl hl (by decide) rfl (fun ls hl => ?_)
    refine lv_aload_n C.x C.b dX3_watch_187 rfl (lv_at hl 1 rfl) ?_
    obtain ⟨fs_45, v_46, q1, q2, h⟩ := h
    refine z_get C hR q1 rfl (ci := 3) rfl in_X3 20 (by decide) q1657 (fun _ h => h) q2 dX3_watch_188 ?_
    refine lv_iconst (v := 1) C.x C.b dX3_watch_191 (by decide) ?_
    refine lv_isub C.x C.b dX3_watch_192 ?_
    exact z_iret C hQ dX3_watch_193 h H locs ls hR hS hl
  · have h := h2 c; clear h1 h2
    refine lv_aload_n C.x C.b dX3_watch_43 rfl (lv_at hl 0 rfl) ?_
    obtain ⟨fs_47, v_48, q1, q2, h⟩ := h
    refine z_get C hR q1 rfl (ci := 3) rfl in_X3 20 (by decide) q1657 (fun _ h => h) q2 dX3_watch_44 ?_
    refine z_callS C hR hS hl (n := 1) (y := yX3_fromOf) (bytes := cX3_fromOf) (maxL := 1) (rt := (some .int)) (As := [.int v_48]) (rest := []) (lw_S q1805 q1806 q82 q1807) hdS_X3_fromOf (by decide) rfl rfl (Nat.le_of_ble_eq_true rfl) dX3_watch_47 h (fun r g_49 hk_ => ?_) (fun x g1 h => z_out C hQ h)
    clear h; obtain ⟨v_50, rfl, h⟩ := hk_
    show GW X E 5 g_49 50 [(0, .ref a0), (1, .int x1), (2, .int x2), (3, .int x3)] [.int v_50]
    intro H locs ls hR hS hl
    refine lv_iload_n C.x C.b dX3_watch_50 rfl (lv_at hl 3 rfl) ?_
    refine lv_iadd C.x C.b dX3_watch_51 ?_
    refine lv_istore (lv' := [(4, .int (v_50 + x3)), (0, .ref a0), (1, .int x1), (2, .int x2), (3, .int x3)]) C.x C.b dX3_watch_52 hl (by decide) rfl (fun ls hl => ?_)
    refine lv_aload_n C.x C.b dX3_watch_54 rfl (lv_at hl 1 rfl) ?_
    obtain ⟨fs_51, a_52, q1, q2, h⟩ := h
    refine z_get C hR q1 rfl (ci := 3) rfl in_X3 16 (by decide) q1653 (fun _ h => h) q2 dX3_watch_55 ?_
    refine lv_iload C.x C.b dX3_watch_58 (lv_at hl 0 rfl) ?_
    refine lv_aload_n C.x C.b dX3_watch_60 rfl (lv_at hl 1 rfl) ?_
    obtain ⟨fs_53, a_54, q1, q2, h⟩ := h
    refine z_get C hR q1 rfl (ci := 3) rfl in_X3 16 (by decide) q1653 (fun _ h => h) q2 dX3_watch_61 ?_
    refine lv_iload_n C.x C.b dX3_watch_64 rfl (lv_at hl 4 rfl) ?_
    obtain ⟨n_55, f_56, q1, q2, h⟩ := h
    refine z_iald C hR q1 (by decide) q2 dX3_watch_65 ?_
    have h := h _ rfl
    generalize f_56 x3.toNatClampNeg = v_57 at h ⊢
    obtain ⟨n_58, f_59, q1, q2, h⟩ := h
    refine z_iast C hR hS q1 (by decide) q2 dX3_watch_66 (fun H locs hR hS => ?_)
    have h := h _ rfl
    generalize zSi g_49 16 a_52 n_58 (upd f_59 (v_50 + x3).toNatClampNeg v_57) = g_60 at h hR
    refine lv_aload_n C.x C.b dX3_watch_67 rfl (lv_at hl 1 rfl) ?_
    obtain ⟨fs_61, a_62, q1, q2, h⟩ := h
    refine z_get C hR q1 rfl (ci := 3) rfl in_X3 17 (by decide) q1654 (fun _ h => h) q2 dX3_watch_68 ?_
    refine lv_iload C.x C.b dX3_watch_71 (lv_at hl 0 rfl) ?_
    refine lv_aload_n C.x C.b dX3_watch_73 rfl (lv_at hl 1 rfl) ?_
    obtain ⟨fs_63, a_64, q1, q2, h⟩ := h
    refine z_get C hR q1 rfl (ci := 3) rfl in_X3 17 (by decide) q1654 (fun _ h => h) q2 dX3_watch_74 ?_
    refine lv_iload_n C.x C.b dX3_watch_77 rfl (lv_at hl 4 rfl) ?_
    obtain ⟨n_65, f_66, q1, q2, h⟩ := h
    refine z_iald C hR q1 (by decide) q2 dX3_watch_78 ?_
    have h := h _ rfl
    generalize f_66 x3.toNatClampNeg = v_67 at h ⊢
    obtain ⟨n_68, f_69, q1, q2, h⟩ := h
    refine z_iast C hR hS q1 (by decide) q2 dX3_watch_79 (fun H locs hR hS => ?_)
    have h := h _ rfl
    generalize zSi g_60 17 a_62 n_68 (upd f_69 (v_50 + x3).toNatClampNeg v_67) = g_70 at h hR
    refine lv_aload_n C.x C.b dX3_watch_80 rfl (lv_at hl 1 rfl) ?_
    obtain ⟨fs_71, a_72, q1, q2, h⟩ := h
    refine z_get C hR q1 rfl (ci := 3) rfl in_X3 18 (by decide) q1655 (fun _ h => h) q2 dX3_watch_81 ?_
    refine lv_iload C.x C.b dX3_watch_84 (lv_at hl 0 rfl) ?_
    refine lv_aload_n C.x C.b dX3_watch_86 rfl (lv_at hl 1 rfl) ?_
    obtain ⟨fs_73, a_74, q1, q2, h⟩ := h
    refine z_get C hR q1 rfl (ci := 3) rfl in_X3 18 (by decide) q1655 (fun _ h => h) q2 dX3_watch_87 ?_
    refine lv_iload_n C.x C.b dX3_watch_90 rfl (lv_at hl 4 rfl) ?_
    obtain ⟨n_75, f_76, q1, q2, h⟩ := h
    refine z_iald C hR q1 (by decide) q2 dX3_watch_91 ?_
    have h := h _ rfl
    generalize f_76 x3.toNatClampNeg = v_77 at h ⊢
    obtain ⟨n_78, f_79, q1, q2, h⟩ := h
    refine z_iast C hR hS q1 (by decide) q2 dX3_watch_92 (fun H locs hR hS => ?_)
    have h := h _ rfl
    generalize zSi g_70 18 a_72 n_78 (upd f_79 (v_50 + x3).toNatClampNeg v_77) = g_80 at h hR
    refine lv_aload_n C.x C.b dX3_watch_93 rfl (lv_at hl 1 rfl) ?_
    obtain ⟨fs_81, a_82, q1, q2, h⟩ := h
    refine z_get C hR q1 rfl (ci := 3) rfl in_X3 19 (by decide) q1656 (fun _ h => h) q2 dX3_watch_94 ?_
    refine lv_iload C.x C.b dX3_watch_97 (lv_at hl 0 rfl) ?_
    refine lv_aload_n C.x C.b dX3_watch_99 rfl (lv_at hl 1 rfl) ?_
    obtain ⟨fs_83, a_84, q1, q2, h⟩ := h
    refine z_get C hR q1 rfl (ci := 3) rfl in_X3 19 (by decide) q1656 (fun _ h => h) q2 dX3_watch_100 ?_
    refine lv_iload_n C.x C.b dX3_watch_103 rfl (lv_at hl 4 rfl) ?_
    obtain ⟨n_85, f_86, q1, q2, h⟩ := h
    refine z_iald C hR q1 (by decide) q2 dX3_watch_104 ?_
    have h := h _ rfl
    generalize f_86 x3.toNatClampNeg = v_87 at h ⊢
    obtain ⟨n_88, f_89, q1, q2, h⟩ := h
    refine z_iast C hR hS q1 (by decide) q2 dX3_watch_105 (fun H locs hR hS => ?_)
    have h := h _ rfl
    generalize zSi g_80 19 a_82 n_88 (upd f_89 (v_50 + x3).toNatClampNeg v_87) = g_90 at h hR
    refine lv_iinc (v := x3 + 1) (lv' := [(3, .int (x3 + 1)), (4, .int (v_50 + x3)), (0, .ref a0), (1, .int x1), (2, .int x2)]) C.x C.b dX3_watch_106 hl (k := 4) rfl rfl (by decide) rfl (fun ls hl => ?_)
    refine lv_goto (tgt := 35) C.x C.b dX3_watch_109 (by decide) ?_
    exact h H locs ls hR hS (lv_sub hl [2, 3, 4, 0] rfl)
set_option maxHeartbeats 4000000 in
theorem mX3_watch {X : zX} {d : Nat} {g : zG} {K : Option Value → zG → Prop} {KX : String → zG → Prop} (hok : zOk X) (a0 : Nat) (x1 : Int32) (x2 : Int32) (h : ∀ E : zM, zC X (d + 1) E RX3 cX3_watch 5 (some .int) "watch" → zQ X E K KX → ∃ (fs_1 : List Value) (v_2 : Int32), zGo g 3 a0 = some fs_1 ∧ fs_1[13]? = some (.int v_2) ∧ (¬ v_2 = 1 → zIs g 3 a0 ∧ zCal X d yX3_goes wX3_goes [.ref a0, .int 0, .int 1, .int 1] g (fun r g_3 => ∃ v_4 : Int32, r = some (.int v_4) ∧ zbo v_4 ∧ (¬ v_4 = 0 → GW X E 5 g_3 35 [(0, .ref a0), (1, .int x1), (2, .int x2), (3, .int 0)] []) ∧ (v_4 = 0 → K (some (.int 0)) g_3)) KX) ∧ (v_2 = 1 → ∃ (fs_5 : List Value) (v_6 : Int32), zGo g 3 a0 = some fs_5 ∧ fs_5[20]? = some (.int v_6) ∧ (6 ≤ v_6 → zIs g 3 a0 ∧ zCal X d yX3_goes wX3_goes [.ref a0, .int 0, .int 1, .int 1] g (fun r g_7 => ∃ v_8 : Int32, r = some (.int v_8) ∧ zbo v_8 ∧ (¬ v_8 = 0 → GW X E 5 g_7 35 [(0, .ref a0), (1, .int x1), (2, .int x2), (3, .int 0)] []) ∧ (v_8 = 0 → K (some (.int 0)) g_7)) KX) ∧ (¬ 6 ≤ v_6 → zIs g 3 a0 ∧ zCal X d yX3_goes wX3_goes [.ref a0, .int 1, .int 1, .int 1] g (fun r g_9 => ∃ v_10 : Int32, r = some (.int v_10) ∧ zbo v_10 ∧ (¬ v_10 = 0 → GW X E 5 g_9 35 [(0, .ref a0), (1, .int x1), (2, .int x2), (3, .int 0)] []) ∧ (v_10 = 0 → K (some (.int 0)) g_9)) KX))) : zCal X (d + 1) yX3_watch wX3_watch [.ref a0, .int x1, .int x2] g K KX := by
  refine z_enter hok pn_X3 (Nat.le_of_ble_eq_true rfl) (fun E C hQ => ?_)
  have C : zC X (d + 1) E RX3 cX3_watch 5 (some .int) "watch" := C
  have h := h E C hQ
  show GW X E 5 g 0 [(0, .ref a0), (1, .int x1), (2, .int x2)] []
  intro H locs ls hR hS hl
  refine lv_aload_n C.x C.b dX3_watch_0 rfl (lv_at hl 0 rfl) ?_
  refine lv_aload_n C.x C.b dX3_watch_1 rfl (lv_at hl 0 rfl) ?_
  obtain ⟨fs_1, v_2, q1, q2, h⟩ := h
  refine z_get C hR q1 rfl (ci := 3) rfl in_X3 13 (by decide) q1650 (fun _ h => h) q2 dX3_watch_2 ?_
  refine lv_iconst (v := 1) C.x C.b dX3_watch_5 (by decide) ?_
  obtain ⟨h1, h2⟩ := h
  refine lv_icmp_ne (tgt := 22) C.x C.b dX3_watch_6 (by decide) (fun c => ?_) (fun c => ?_)
  · have h := h1 c; clear h1 h2
    refine lv_iconst (v := 0) C.x C.b dX3_watch_22 (by decide) ?_
    refine lv_iconst (v := 1) C.x C.b dX3_watch_23 (by decide) ?_
    refine lv_iconst (v := 1) C.x C.b dX3_watch_24 (by decide) ?_
    refine z_callV C hR hS hl (n := 3) (C1 := RX3) (T := TX3) (N := 35) (ci := 3) (y := yX3_goes) (bytes := cX3_goes) (maxL := 4) (rt := (some .boolean)) (As := [.int 0, .int 1, .int 1]) (rest := []) h.1 rfl (lw_V q1758 q1760 qs28 q82 q1761) hdV_X3_goes (by decide) rfl rfl (Nat.le_of_ble_eq_true rfl) dX3_watch_25 h.2 (fun r g_3 hk_ => ?_) (fun x g1 h => z_out C hQ h)
    clear h; obtain ⟨v_4, rfl, zb_, h⟩ := hk_
    show GW X E 5 g_3 28 [(0, .ref a0), (1, .int x1), (2, .int x2)] [.int v_4]
    intro H locs ls hR hS hl
    obtain ⟨h1, h2⟩ := h
    refine lv_if_ne (tgt := 33) C.x C.b dX3_watch_28 (by decide) (fun c => ?_) (fun c => ?_)
    · have h := h1 c; clear h1 h2
      refine lv_iconst (v := 0) C.x C.b dX3_watch_33 (by decide) ?_
      refine lv_istore_n (lv' := [(3, .int 0), (0, .ref a0), (1, .int x1), (2, .int x2)]) C.x C.b dX3_watch_34 rfl hl (by decide) rfl (fun ls hl => ?_)
      exact h H locs ls hR hS (lv_sub hl [1, 2, 3, 0] rfl)
    · have h := h2 c; clear h1 h2
      refine lv_iconst (v := 0) C.x C.b dX3_watch_31 (by decide) ?_
      exact z_iret C hQ dX3_watch_32 h H locs ls hR hS hl
  · have h := h2 c; clear h1 h2
    refine lv_aload_n C.x C.b dX3_watch_9 rfl (lv_at hl 0 rfl) ?_
    obtain ⟨fs_5, v_6, q1, q2, h⟩ := h
    refine z_get C hR q1 rfl (ci := 3) rfl in_X3 20 (by decide) q1657 (fun _ h => h) q2 dX3_watch_10 ?_
    refine lv_bipush (v := 6) C.x C.b dX3_watch_13 (by decide) ?_
    obtain ⟨h1, h2⟩ := h
    refine lv_icmp_ge (tgt := 22) C.x C.b dX3_watch_15 (by decide) (fun c => ?_) (fun c => ?_)
    · have h := h1 c; clear h1 h2
      refine lv_iconst (v := 0) C.x C.b dX3_watch_22 (by decide) ?_
      refine lv_iconst (v := 1) C.x C.b dX3_watch_23 (by decide) ?_
      refine lv_iconst (v := 1) C.x C.b dX3_watch_24 (by decide) ?_
      refine z_callV C hR hS hl (n := 3) (C1 := RX3) (T := TX3) (N := 35) (ci := 3) (y := yX3_goes) (bytes := cX3_goes) (maxL := 4) (rt := (some .boolean)) (As := [.int 0, .int 1, .int 1]) (rest := []) h.1 rfl (lw_V q1758 q1760 qs28 q82 q1761) hdV_X3_goes (by decide) rfl rfl (Nat.le_of_ble_eq_true rfl) dX3_watch_25 h.2 (fun r g_7 hk_ => ?_) (fun x g1 h => z_out C hQ h)
      clear h; obtain ⟨v_8, rfl, zb_, h⟩ := hk_
      show GW X E 5 g_7 28 [(0, .ref a0), (1, .int x1), (2, .int x2)] [.int v_8]
      intro H locs ls hR hS hl
      obtain ⟨h1, h2⟩ := h
      refine lv_if_ne (tgt := 33) C.x C.b dX3_watch_28 (by decide) (fun c => ?_) (fun c => ?_)
      · have h := h1 c; clear h1 h2
        refine lv_iconst (v := 0) C.x C.b dX3_watch_33 (by decide) ?_
        refine lv_istore_n (lv' := [(3, .int 0), (0, .ref a0), (1, .int x1), (2, .int x2)]) C.x C.b dX3_watch_34 rfl hl (by decide) rfl (fun ls hl => ?_)
        exact h H locs ls hR hS (lv_sub hl [1, 2, 3, 0] rfl)
      · have h := h2 c; clear h1 h2
        refine lv_iconst (v := 0) C.x C.b dX3_watch_31 (by decide) ?_
        exact z_iret C hQ dX3_watch_32 h H locs ls hR hS hl
    · have h := h2 c; clear h1 h2
      refine lv_iconst (v := 1) C.x C.b dX3_watch_18 (by decide) ?_
      refine lv_goto (tgt := 23) C.x C.b dX3_watch_19 (by decide) ?_
      refine lv_iconst (v := 1) C.x C.b dX3_watch_23 (by decide) ?_
      refine lv_iconst (v := 1) C.x C.b dX3_watch_24 (by decide) ?_
      refine z_callV C hR hS hl (n := 3) (C1 := RX3) (T := TX3) (N := 35) (ci := 3) (y := yX3_goes) (bytes := cX3_goes) (maxL := 4) (rt := (some .boolean)) (As := [.int 1, .int 1, .int 1]) (rest := []) h.1 rfl (lw_V q1758 q1760 qs28 q82 q1761) hdV_X3_goes (by decide) rfl rfl (Nat.le_of_ble_eq_true rfl) dX3_watch_25 h.2 (fun r g_9 hk_ => ?_) (fun x g1 h => z_out C hQ h)
      clear h; obtain ⟨v_10, rfl, zb_, h⟩ := hk_
      show GW X E 5 g_9 28 [(0, .ref a0), (1, .int x1), (2, .int x2)] [.int v_10]
      intro H locs ls hR hS hl
      obtain ⟨h1, h2⟩ := h
      refine lv_if_ne (tgt := 33) C.x C.b dX3_watch_28 (by decide) (fun c => ?_) (fun c => ?_)
      · have h := h1 c; clear h1 h2
        refine lv_iconst (v := 0) C.x C.b dX3_watch_33 (by decide) ?_
        refine lv_istore_n (lv' := [(3, .int 0), (0, .ref a0), (1, .int x1), (2, .int x2)]) C.x C.b dX3_watch_34 rfl hl (by decide) rfl (fun ls hl => ?_)
        exact h H locs ls hR hS (lv_sub hl [1, 2, 3, 0] rfl)
      · have h := h2 c; clear h1 h2
        refine lv_iconst (v := 0) C.x C.b dX3_watch_31 (by decide) ?_
        exact z_iret C hQ dX3_watch_32 h H locs ls hR hS hl
set_option maxHeartbeats 4000000 in
theorem mX3_events {X : zX} {d : Nat} {g : zG} {K : Option Value → zG → Prop} {KX : String → zG → Prop} (hok : zOk X) (a0 : Nat) (h : ∃ (fs_1 : List Value) (v_2 : Int32), zGo g 3 a0 = some fs_1 ∧ fs_1[3]? = some (.int v_2) ∧ zIs g 3 a0 ∧ zCal X d yX3_tells wX3_tells [.ref a0, .int v_2] g (fun r g_3 => ∃ v_4 : Int32, r = some (.int v_4) ∧ K (some (.int v_4)) g_3) KX) : zCal X (d + 1) yX3_events wX3_events [.ref a0] g K KX := by
  refine z_enter hok pn_X3 (Nat.le_of_ble_eq_true rfl) (fun E C hQ => ?_)
  have C : zC X (d + 1) E RX3 cX3_events 1 (some .int) "events" := C
  show GW X E 1 g 0 [(0, .ref a0)] []
  intro H locs ls hR hS hl
  refine lv_aload_n C.x C.b dX3_events_0 rfl (lv_at hl 0 rfl) ?_
  refine lv_aload_n C.x C.b dX3_events_1 rfl (lv_at hl 0 rfl) ?_
  obtain ⟨fs_1, v_2, q1, q2, h⟩ := h
  refine z_get C hR q1 rfl (ci := 3) rfl in_X3 3 (by decide) q1640 (fun _ h => h) q2 dX3_events_2 ?_
  refine z_callV C hR hS hl (n := 1) (C1 := RX3) (T := TX3) (N := 35) (ci := 3) (y := yX3_tells) (bytes := cX3_tells) (maxL := 2) (rt := (some .int)) (As := [.int v_2]) (rest := []) h.1 rfl (lw_V q1952 q1954 qs55 q82 q1955) hdV_X3_tells (by decide) rfl rfl (Nat.le_of_ble_eq_true rfl) dX3_events_5 h.2 (fun r g_3 hk_ => ?_) (fun x g1 h => z_out C hQ h)
  clear h; obtain ⟨v_4, rfl, h⟩ := hk_
  show GW X E 1 g_3 8 [(0, .ref a0)] [.int v_4]
  intro H locs ls hR hS hl
  exact z_iret C hQ dX3_events_8 h H locs ls hR hS hl
set_option maxHeartbeats 4000000 in
theorem mX3_dropped {X : zX} {d : Nat} {g : zG} {K : Option Value → zG → Prop} {KX : String → zG → Prop} (hok : zOk X) (a0 : Nat) (h : ∃ (fs_1 : List Value) (v_2 : Int32), zGo g 3 a0 = some fs_1 ∧ fs_1[4]? = some (.int v_2) ∧ zIs g 3 a0 ∧ zCal X d yX3_tells wX3_tells [.ref a0, .int v_2] g (fun r g_3 => ∃ v_4 : Int32, r = some (.int v_4) ∧ K (some (.int v_4)) g_3) KX) : zCal X (d + 1) yX3_dropped wX3_dropped [.ref a0] g K KX := by
  refine z_enter hok pn_X3 (Nat.le_of_ble_eq_true rfl) (fun E C hQ => ?_)
  have C : zC X (d + 1) E RX3 cX3_dropped 1 (some .int) "dropped" := C
  show GW X E 1 g 0 [(0, .ref a0)] []
  intro H locs ls hR hS hl
  refine lv_aload_n C.x C.b dX3_dropped_0 rfl (lv_at hl 0 rfl) ?_
  refine lv_aload_n C.x C.b dX3_dropped_1 rfl (lv_at hl 0 rfl) ?_
  obtain ⟨fs_1, v_2, q1, q2, h⟩ := h
  refine z_get C hR q1 rfl (ci := 3) rfl in_X3 4 (by decide) q1641 (fun _ h => h) q2 dX3_dropped_2 ?_
  refine z_callV C hR hS hl (n := 1) (C1 := RX3) (T := TX3) (N := 35) (ci := 3) (y := yX3_tells) (bytes := cX3_tells) (maxL := 2) (rt := (some .int)) (As := [.int v_2]) (rest := []) h.1 rfl (lw_V q1952 q1954 qs55 q82 q1955) hdV_X3_tells (by decide) rfl rfl (Nat.le_of_ble_eq_true rfl) dX3_dropped_5 h.2 (fun r g_3 hk_ => ?_) (fun x g1 h => z_out C hQ h)
  clear h; obtain ⟨v_4, rfl, h⟩ := hk_
  show GW X E 1 g_3 8 [(0, .ref a0)] [.int v_4]
  intro H locs ls hR hS hl
  exact z_iret C hQ dX3_dropped_8 h H locs ls hR hS hl
set_option maxHeartbeats 4000000 in
theorem mX3_present {X : zX} {d : Nat} {g : zG} {K : Option Value → zG → Prop} {KX : String → zG → Prop} (hok : zOk X) (a0 : Nat) (h : ∃ (fs_1 : List Value) (v_2 : Int32), zGo g 3 a0 = some fs_1 ∧ fs_1[5]? = some (.int v_2) ∧ zIs g 3 a0 ∧ zCal X d yX3_tells wX3_tells [.ref a0, .int v_2] g (fun r g_3 => ∃ v_4 : Int32, r = some (.int v_4) ∧ K (some (.int v_4)) g_3) KX) : zCal X (d + 1) yX3_present wX3_present [.ref a0] g K KX := by
  refine z_enter hok pn_X3 (Nat.le_of_ble_eq_true rfl) (fun E C hQ => ?_)
  have C : zC X (d + 1) E RX3 cX3_present 1 (some .int) "present" := C
  show GW X E 1 g 0 [(0, .ref a0)] []
  intro H locs ls hR hS hl
  refine lv_aload_n C.x C.b dX3_present_0 rfl (lv_at hl 0 rfl) ?_
  refine lv_aload_n C.x C.b dX3_present_1 rfl (lv_at hl 0 rfl) ?_
  obtain ⟨fs_1, v_2, q1, q2, h⟩ := h
  refine z_get C hR q1 rfl (ci := 3) rfl in_X3 5 (by decide) q1642 (fun _ h => h) q2 dX3_present_2 ?_
  refine z_callV C hR hS hl (n := 1) (C1 := RX3) (T := TX3) (N := 35) (ci := 3) (y := yX3_tells) (bytes := cX3_tells) (maxL := 2) (rt := (some .int)) (As := [.int v_2]) (rest := []) h.1 rfl (lw_V q1952 q1954 qs55 q82 q1955) hdV_X3_tells (by decide) rfl rfl (Nat.le_of_ble_eq_true rfl) dX3_present_5 h.2 (fun r g_3 hk_ => ?_) (fun x g1 h => z_out C hQ h)
  clear h; obtain ⟨v_4, rfl, h⟩ := hk_
  show GW X E 1 g_3 8 [(0, .ref a0)] [.int v_4]
  intro H locs ls hR hS hl
  exact z_iret C hQ dX3_present_8 h H locs ls hR hS hl
set_option maxHeartbeats 4000000 in
theorem mX3_isEvent {X : zX} {d : Nat} {g : zG} {K : Option Value → zG → Prop} {KX : String → zG → Prop} (hok : zOk X) (a0 : Nat) (x1 : Int32) (h : ∃ (fs_1 : List Value) (v_2 : Int32), zGo g 3 a0 = some fs_1 ∧ fs_1[3]? = some (.int v_2) ∧ zCal X d yX3_in wX3_in [.int x1, .int 0, .int (v_2 - 1)] g (fun r g_3 => ∃ v_4 : Int32, r = some (.int v_4) ∧ zbo v_4 ∧ zbo v_4 ∧ K (some (.int v_4)) g_3) KX) : zCal X (d + 1) yX3_isEvent wX3_isEvent [.ref a0, .int x1] g K KX := by
  refine z_enter hok pn_X3 (Nat.le_of_ble_eq_true rfl) (fun E C hQ => ?_)
  have C : zC X (d + 1) E RX3 cX3_isEvent 2 (some .boolean) "isEvent" := C
  show GW X E 2 g 0 [(0, .ref a0), (1, .int x1)] []
  intro H locs ls hR hS hl
  refine lv_iload_n C.x C.b dX3_isEvent_0 rfl (lv_at hl 1 rfl) ?_
  refine lv_iconst (v := 0) C.x C.b dX3_isEvent_1 (by decide) ?_
  refine lv_aload_n C.x C.b dX3_isEvent_2 rfl (lv_at hl 0 rfl) ?_
  obtain ⟨fs_1, v_2, q1, q2, h⟩ := h
  refine z_get C hR q1 rfl (ci := 3) rfl in_X3 3 (by decide) q1640 (fun _ h => h) q2 dX3_isEvent_3 ?_
  refine lv_iconst (v := 1) C.x C.b dX3_isEvent_6 (by decide) ?_
  refine lv_isub C.x C.b dX3_isEvent_7 ?_
  refine z_callS C hR hS hl (n := 3) (y := yX3_in) (bytes := cX3_in) (maxL := 3) (rt := (some .boolean)) (As := [.int x1, .int 0, .int (v_2 - 1)]) (rest := []) (lw_S q1755 q1756 q82 q1757) hdS_X3_in (by decide) rfl rfl (Nat.le_of_ble_eq_true rfl) dX3_isEvent_8 h (fun r g_3 hk_ => ?_) (fun x g1 h => z_out C hQ h)
  clear h; obtain ⟨v_4, rfl, zb_, h⟩ := hk_
  show GW X E 2 g_3 11 [(0, .ref a0), (1, .int x1)] [.int v_4]
  intro H locs ls hR hS hl
  exact z_zret C hQ (zbo_n h.1) dX3_isEvent_11 h.2 H locs ls hR hS hl
theorem hdV_X3_isEvent : yX3_isEvent.cls = RX3 ∧ yX3_isEvent.cls ≠ "java/lang/invoke/MethodHandle" ∧ yX3_isEvent.cls ≠ "java/lang/invoke/VarHandle" ∧ (parseMethodDescriptor yX3_isEvent.desc).map (fun d => d.parameters.length) = some 1 := by decide +kernel
set_option maxHeartbeats 4000000 in
theorem mX3_eventAt {X : zX} {d : Nat} {g : zG} {K : Option Value → zG → Prop} {KX : String → zG → Prop} (hok : zOk X) (a0 : Nat) (x1 : Int32) (h : zIs g 3 a0 ∧ zCal X d yX3_isEvent wX3_isEvent [.ref a0, .int x1] g (fun r g_1 => ∃ v_2 : Int32, r = some (.int v_2) ∧ zbo v_2 ∧ zIs g_1 3 a0 ∧ zCal X d yX3_goes wX3_goes [.ref a0, .int v_2, .int 1, .int 1] g_1 (fun r g_3 => ∃ v_4 : Int32, r = some (.int v_4) ∧ zbo v_4 ∧ (v_4 = 0 → K (some (.int 0)) g_3) ∧ (¬ v_4 = 0 → ∃ (fs_5 : List Value) (a_6 : Nat), zGo g_3 3 a0 = some fs_5 ∧ fs_5[12]? = some (.ref a_6) ∧ ∃ (n_7 : Nat) (f_8 : Nat → Int32), zGi g_3 12 a_6 = some (n_7, f_8) ∧ vp_in x1 n_7 ∧ ∀ v_9 : Int32, v_9 = f_8 x1.toNatClampNeg → K (some (.int v_9)) g_3)) KX) KX) : zCal X (d + 1) yX3_eventAt wX3_eventAt [.ref a0, .int x1] g K KX := by
  refine z_enter hok pn_X3 (Nat.le_of_ble_eq_true rfl) (fun E C hQ => ?_)
  have C : zC X (d + 1) E RX3 cX3_eventAt 2 (some .int) "eventAt" := C
  show GW X E 2 g 0 [(0, .ref a0), (1, .int x1)] []
  intro H locs ls hR hS hl
  refine lv_aload_n C.x C.b dX3_eventAt_0 rfl (lv_at hl 0 rfl) ?_
  refine lv_aload_n C.x C.b dX3_eventAt_1 rfl (lv_at hl 0 rfl) ?_
  refine lv_iload_n C.x C.b dX3_eventAt_2 rfl (lv_at hl 1 rfl) ?_
  refine z_callV C hR hS hl (n := 1) (C1 := RX3) (T := TX3) (N := 35) (ci := 3) (y := yX3_isEvent) (bytes := cX3_isEvent) (maxL := 2) (rt := (some .boolean)) (As := [.int x1]) (rest := [.ref a0]) h.1 rfl (lw_V q1976 q1978 qs56 q82 q1979) hdV_X3_isEvent (by decide) rfl rfl (Nat.le_of_ble_eq_true rfl) dX3_eventAt_3 h.2 (fun r g_1 hk_ => ?_) (fun x g1 h => z_out C hQ h)
  clear h; obtain ⟨v_2, rfl, zb_, h⟩ := hk_
  show GW X E 2 g_1 6 [(0, .ref a0), (1, .int x1)] [.int v_2, .ref a0]
  intro H locs ls hR hS hl
  refine lv_iconst (v := 1) C.x C.b dX3_eventAt_6 (by decide) ?_
  refine lv_iconst (v := 1) C.x C.b dX3_eventAt_7 (by decide) ?_
  refine z_callV C hR hS hl (n := 3) (C1 := RX3) (T := TX3) (N := 35) (ci := 3) (y := yX3_goes) (bytes := cX3_goes) (maxL := 4) (rt := (some .boolean)) (As := [.int v_2, .int 1, .int 1]) (rest := []) h.1 rfl (lw_V q1758 q1760 qs28 q82 q1761) hdV_X3_goes (by decide) rfl rfl (Nat.le_of_ble_eq_true rfl) dX3_eventAt_8 h.2 (fun r g_3 hk_ => ?_) (fun x g1 h => z_out C hQ h)
  clear h; obtain ⟨v_4, rfl, zb_, h⟩ := hk_
  show GW X E 2 g_3 11 [(0, .ref a0), (1, .int x1)] [.int v_4]
  intro H locs ls hR hS hl
  obtain ⟨h1, h2⟩ := h
  refine lv_if_eq (tgt := 23) C.x C.b dX3_eventAt_11 (by decide) (fun c => ?_) (fun c => ?_)
  · have h := h1 c; clear h1 h2
    refine lv_iconst (v := 0) C.x C.b dX3_eventAt_23 (by decide) ?_
    exact z_iret C hQ dX3_eventAt_24 h H locs ls hR hS hl
  · have h := h2 c; clear h1 h2
    refine lv_aload_n C.x C.b dX3_eventAt_14 rfl (lv_at hl 0 rfl) ?_
    obtain ⟨fs_5, a_6, q1, q2, h⟩ := h
    refine z_get C hR q1 rfl (ci := 3) rfl in_X3 12 (by decide) q1649 (fun _ h => h) q2 dX3_eventAt_15 ?_
    refine lv_iload_n C.x C.b dX3_eventAt_18 rfl (lv_at hl 1 rfl) ?_
    obtain ⟨n_7, f_8, q1, q2, h⟩ := h
    refine z_iald C hR q1 (by decide) q2 dX3_eventAt_19 ?_
    have h := h _ rfl
    generalize f_8 x1.toNatClampNeg = v_9 at h ⊢
    refine lv_goto (tgt := 24) C.x C.b dX3_eventAt_20 (by decide) ?_
    exact z_iret C hQ dX3_eventAt_24 h H locs ls hR hS hl
set_option maxHeartbeats 4000000 in
theorem mX3_timeOf {X : zX} {d : Nat} {g : zG} {K : Option Value → zG → Prop} {KX : String → zG → Prop} (hok : zOk X) (a0 : Nat) (x1 : Int32) (h : zIs g 3 a0 ∧ zCal X d yX3_isEvent wX3_isEvent [.ref a0, .int x1] g (fun r g_1 => ∃ v_2 : Int32, r = some (.int v_2) ∧ zbo v_2 ∧ zIs g_1 3 a0 ∧ zCal X d yX3_goes wX3_goes [.ref a0, .int v_2, .int 1, .int 1] g_1 (fun r g_3 => ∃ v_4 : Int32, r = some (.int v_4) ∧ zbo v_4 ∧ (v_4 = 0 → K (some (.int 0)) g_3) ∧ (¬ v_4 = 0 → ∃ (fs_5 : List Value) (a_6 : Nat), zGo g_3 3 a0 = some fs_5 ∧ fs_5[7]? = some (.ref a_6) ∧ ∃ (n_7 : Nat) (f_8 : Nat → Int32), zGi g_3 7 a_6 = some (n_7, f_8) ∧ vp_in x1 n_7 ∧ ∀ v_9 : Int32, v_9 = f_8 x1.toNatClampNeg → K (some (.int v_9)) g_3)) KX) KX) : zCal X (d + 1) yX3_timeOf wX3_timeOf [.ref a0, .int x1] g K KX := by
  refine z_enter hok pn_X3 (Nat.le_of_ble_eq_true rfl) (fun E C hQ => ?_)
  have C : zC X (d + 1) E RX3 cX3_timeOf 2 (some .int) "timeOf" := C
  show GW X E 2 g 0 [(0, .ref a0), (1, .int x1)] []
  intro H locs ls hR hS hl
  refine lv_aload_n C.x C.b dX3_timeOf_0 rfl (lv_at hl 0 rfl) ?_
  refine lv_aload_n C.x C.b dX3_timeOf_1 rfl (lv_at hl 0 rfl) ?_
  refine lv_iload_n C.x C.b dX3_timeOf_2 rfl (lv_at hl 1 rfl) ?_
  refine z_callV C hR hS hl (n := 1) (C1 := RX3) (T := TX3) (N := 35) (ci := 3) (y := yX3_isEvent) (bytes := cX3_isEvent) (maxL := 2) (rt := (some .boolean)) (As := [.int x1]) (rest := [.ref a0]) h.1 rfl (lw_V q1976 q1978 qs56 q82 q1979) hdV_X3_isEvent (by decide) rfl rfl (Nat.le_of_ble_eq_true rfl) dX3_timeOf_3 h.2 (fun r g_1 hk_ => ?_) (fun x g1 h => z_out C hQ h)
  clear h; obtain ⟨v_2, rfl, zb_, h⟩ := hk_
  show GW X E 2 g_1 6 [(0, .ref a0), (1, .int x1)] [.int v_2, .ref a0]
  intro H locs ls hR hS hl
  refine lv_iconst (v := 1) C.x C.b dX3_timeOf_6 (by decide) ?_
  refine lv_iconst (v := 1) C.x C.b dX3_timeOf_7 (by decide) ?_
  refine z_callV C hR hS hl (n := 3) (C1 := RX3) (T := TX3) (N := 35) (ci := 3) (y := yX3_goes) (bytes := cX3_goes) (maxL := 4) (rt := (some .boolean)) (As := [.int v_2, .int 1, .int 1]) (rest := []) h.1 rfl (lw_V q1758 q1760 qs28 q82 q1761) hdV_X3_goes (by decide) rfl rfl (Nat.le_of_ble_eq_true rfl) dX3_timeOf_8 h.2 (fun r g_3 hk_ => ?_) (fun x g1 h => z_out C hQ h)
  clear h; obtain ⟨v_4, rfl, zb_, h⟩ := hk_
  show GW X E 2 g_3 11 [(0, .ref a0), (1, .int x1)] [.int v_4]
  intro H locs ls hR hS hl
  obtain ⟨h1, h2⟩ := h
  refine lv_if_eq (tgt := 23) C.x C.b dX3_timeOf_11 (by decide) (fun c => ?_) (fun c => ?_)
  · have h := h1 c; clear h1 h2
    refine lv_iconst (v := 0) C.x C.b dX3_timeOf_23 (by decide) ?_
    exact z_iret C hQ dX3_timeOf_24 h H locs ls hR hS hl
  · have h := h2 c; clear h1 h2
    refine lv_aload_n C.x C.b dX3_timeOf_14 rfl (lv_at hl 0 rfl) ?_
    obtain ⟨fs_5, a_6, q1, q2, h⟩ := h
    refine z_get C hR q1 rfl (ci := 3) rfl in_X3 7 (by decide) q1644 (fun _ h => h) q2 dX3_timeOf_15 ?_
    refine lv_iload_n C.x C.b dX3_timeOf_18 rfl (lv_at hl 1 rfl) ?_
    obtain ⟨n_7, f_8, q1, q2, h⟩ := h
    refine z_iald C hR q1 (by decide) q2 dX3_timeOf_19 ?_
    have h := h _ rfl
    generalize f_8 x1.toNatClampNeg = v_9 at h ⊢
    refine lv_goto (tgt := 24) C.x C.b dX3_timeOf_20 (by decide) ?_
    exact z_iret C hQ dX3_timeOf_24 h H locs ls hR hS hl
set_option maxHeartbeats 4000000 in
theorem mX3_isLate {X : zX} {d : Nat} {g : zG} {K : Option Value → zG → Prop} {KX : String → zG → Prop} (hok : zOk X) (a0 : Nat) (x1 : Int32) (h : zIs g 3 a0 ∧ zCal X d yX3_isEvent wX3_isEvent [.ref a0, .int x1] g (fun r g_1 => ∃ v_2 : Int32, r = some (.int v_2) ∧ zbo v_2 ∧ zIs g_1 3 a0 ∧ zCal X d yX3_goes wX3_goes [.ref a0, .int v_2, .int 1, .int 1] g_1 (fun r g_3 => ∃ v_4 : Int32, r = some (.int v_4) ∧ zbo v_4 ∧ (v_4 = 0 → K (some (.int 0)) g_3) ∧ (¬ v_4 = 0 → ∃ (fs_5 : List Value) (a_6 : Nat), zGo g_3 3 a0 = some fs_5 ∧ fs_5[11]? = some (.ref a_6) ∧ ∃ (n_7 : Nat) (f_8 : Nat → Int32), zGi g_3 111 a_6 = some (n_7, f_8) ∧ vp_in x1 n_7 ∧ ∀ v_9 : Int32, v_9 = f_8 x1.toNatClampNeg → (v_9 = 0 → K (some (.int 0)) g_3) ∧ (¬ v_9 = 0 → K (some (.int 1)) g_3))) KX) KX) : zCal X (d + 1) yX3_isLate wX3_isLate [.ref a0, .int x1] g K KX := by
  refine z_enter hok pn_X3 (Nat.le_of_ble_eq_true rfl) (fun E C hQ => ?_)
  have C : zC X (d + 1) E RX3 cX3_isLate 2 (some .boolean) "isLate" := C
  show GW X E 2 g 0 [(0, .ref a0), (1, .int x1)] []
  intro H locs ls hR hS hl
  refine lv_aload_n C.x C.b dX3_isLate_0 rfl (lv_at hl 0 rfl) ?_
  refine lv_aload_n C.x C.b dX3_isLate_1 rfl (lv_at hl 0 rfl) ?_
  refine lv_iload_n C.x C.b dX3_isLate_2 rfl (lv_at hl 1 rfl) ?_
  refine z_callV C hR hS hl (n := 1) (C1 := RX3) (T := TX3) (N := 35) (ci := 3) (y := yX3_isEvent) (bytes := cX3_isEvent) (maxL := 2) (rt := (some .boolean)) (As := [.int x1]) (rest := [.ref a0]) h.1 rfl (lw_V q1976 q1978 qs56 q82 q1979) hdV_X3_isEvent (by decide) rfl rfl (Nat.le_of_ble_eq_true rfl) dX3_isLate_3 h.2 (fun r g_1 hk_ => ?_) (fun x g1 h => z_out C hQ h)
  clear h; obtain ⟨v_2, rfl, zb_, h⟩ := hk_
  show GW X E 2 g_1 6 [(0, .ref a0), (1, .int x1)] [.int v_2, .ref a0]
  intro H locs ls hR hS hl
  refine lv_iconst (v := 1) C.x C.b dX3_isLate_6 (by decide) ?_
  refine lv_iconst (v := 1) C.x C.b dX3_isLate_7 (by decide) ?_
  refine z_callV C hR hS hl (n := 3) (C1 := RX3) (T := TX3) (N := 35) (ci := 3) (y := yX3_goes) (bytes := cX3_goes) (maxL := 4) (rt := (some .boolean)) (As := [.int v_2, .int 1, .int 1]) (rest := []) h.1 rfl (lw_V q1758 q1760 qs28 q82 q1761) hdV_X3_goes (by decide) rfl rfl (Nat.le_of_ble_eq_true rfl) dX3_isLate_8 h.2 (fun r g_3 hk_ => ?_) (fun x g1 h => z_out C hQ h)
  clear h; obtain ⟨v_4, rfl, zb_, h⟩ := hk_
  show GW X E 2 g_3 11 [(0, .ref a0), (1, .int x1)] [.int v_4]
  intro H locs ls hR hS hl
  obtain ⟨h1, h2⟩ := h
  refine lv_if_eq (tgt := 27) C.x C.b dX3_isLate_11 (by decide) (fun c => ?_) (fun c => ?_)
  · have h := h1 c; clear h1 h2
    refine lv_iconst (v := 0) C.x C.b dX3_isLate_27 (by decide) ?_
    exact z_zret C hQ rfl dX3_isLate_28 h H locs ls hR hS hl
  · have h := h2 c; clear h1 h2
    refine lv_aload_n C.x C.b dX3_isLate_14 rfl (lv_at hl 0 rfl) ?_
    obtain ⟨fs_5, a_6, q1, q2, h⟩ := h
    refine z_get C hR q1 rfl (ci := 3) rfl in_X3 11 (by decide) q1648 (fun _ h => h) q2 dX3_isLate_15 ?_
    refine lv_iload_n C.x C.b dX3_isLate_18 rfl (lv_at hl 1 rfl) ?_
    obtain ⟨n_7, f_8, q1, q2, h⟩ := h
    refine z_zald C hR q1 (by decide) q2 dX3_isLate_19 ?_
    have h := h _ rfl
    generalize f_8 x1.toNatClampNeg = v_9 at h ⊢
    obtain ⟨h1, h2⟩ := h
    refine lv_if_eq (tgt := 27) C.x C.b dX3_isLate_20 (by decide) (fun c => ?_) (fun c => ?_)
    · have h := h1 c; clear h1 h2
      refine lv_iconst (v := 0) C.x C.b dX3_isLate_27 (by decide) ?_
      exact z_zret C hQ rfl dX3_isLate_28 h H locs ls hR hS hl
    · have h := h2 c; clear h1 h2
      refine lv_iconst (v := 1) C.x C.b dX3_isLate_23 (by decide) ?_
      refine lv_goto (tgt := 28) C.x C.b dX3_isLate_24 (by decide) ?_
      exact z_zret C hQ rfl dX3_isLate_28 h H locs ls hR hS hl
set_option maxHeartbeats 4000000 in
theorem mX3_isStretch {X : zX} {d : Nat} {g : zG} {K : Option Value → zG → Prop} {KX : String → zG → Prop} (hok : zOk X) (a0 : Nat) (x1 : Int32) (x2 : Int32) (x3 : Int32) (h : zCal X d yX3_isKind wX3_isKind [.int x1] g (fun r g_1 => ∃ v_2 : Int32, r = some (.int v_2) ∧ zbo v_2 ∧ (v_2 = 0 → zIs g_1 3 a0 ∧ zCal X d yX3_goes wX3_goes [.ref a0, .int 0, .int 1, .int 1] g_1 (fun r g_3 => ∃ v_4 : Int32, r = some (.int v_4) ∧ zbo v_4 ∧ zbo v_4 ∧ K (some (.int v_4)) g_3) KX) ∧ (¬ v_2 = 0 → zCal X d yX3_in wX3_in [.int x2, .int 0, .int 11000] g_1 (fun r g_5 => ∃ v_6 : Int32, r = some (.int v_6) ∧ zbo v_6 ∧ (v_6 = 0 → zIs g_5 3 a0 ∧ zCal X d yX3_goes wX3_goes [.ref a0, .int 0, .int 1, .int 1] g_5 (fun r g_7 => ∃ v_8 : Int32, r = some (.int v_8) ∧ zbo v_8 ∧ zbo v_8 ∧ K (some (.int v_8)) g_7) KX) ∧ (¬ v_6 = 0 → zCal X d yX3_in wX3_in [.int x3, .int x2, .int 11000] g_5 (fun r g_9 => ∃ v_10 : Int32, r = some (.int v_10) ∧ zbo v_10 ∧ (v_10 = 0 → zIs g_9 3 a0 ∧ zCal X d yX3_goes wX3_goes [.ref a0, .int 0, .int 1, .int 1] g_9 (fun r g_11 => ∃ v_12 : Int32, r = some (.int v_12) ∧ zbo v_12 ∧ zbo v_12 ∧ K (some (.int v_12)) g_11) KX) ∧ (¬ v_10 = 0 → zIs g_9 3 a0 ∧ zCal X d yX3_goes wX3_goes [.ref a0, .int 1, .int 1, .int 1] g_9 (fun r g_13 => ∃ v_14 : Int32, r = some (.int v_14) ∧ zbo v_14 ∧ zbo v_14 ∧ K (some (.int v_14)) g_13) KX)) KX)) KX)) KX) : zCal X (d + 1) yX3_isStretch wX3_isStretch [.ref a0, .int x1, .int x2, .int x3] g K KX := by
  refine z_enter hok pn_X3 (Nat.le_of_ble_eq_true rfl) (fun E C hQ => ?_)
  have C : zC X (d + 1) E RX3 cX3_isStretch 4 (some .boolean) "isStretch" := C
  show GW X E 4 g 0 [(0, .ref a0), (1, .int x1), (2, .int x2), (3, .int x3)] []
  intro H locs ls hR hS hl
  refine lv_aload_n C.x C.b dX3_isStretch_0 rfl (lv_at hl 0 rfl) ?_
  refine lv_iload_n C.x C.b dX3_isStretch_1 rfl (lv_at hl 1 rfl) ?_
  refine z_callS C hR hS hl (n := 1) (y := yX3_isKind) (bytes := cX3_isKind) (maxL := 1) (rt := (some .boolean)) (As := [.int x1]) (rest := [.ref a0]) (lw_S q1774 q1775 q82 q1776) hdS_X3_isKind (by decide) rfl rfl (Nat.le_of_ble_eq_true rfl) dX3_isStretch_2 h (fun r g_1 hk_ => ?_) (fun x g1 h => z_out C hQ h)
  clear h; obtain ⟨v_2, rfl, zb_, h⟩ := hk_
  show GW X E 4 g_1 5 [(0, .ref a0), (1, .int x1), (2, .int x2), (3, .int x3)] [.int v_2, .ref a0]
  intro H locs ls hR hS hl
  obtain ⟨h1, h2⟩ := h
  refine lv_if_eq (tgt := 34) C.x C.b dX3_isStretch_5 (by decide) (fun c => ?_) (fun c => ?_)
  · have h := h1 c; clear h1 h2
    refine lv_iconst (v := 0) C.x C.b dX3_isStretch_34 (by decide) ?_
    refine lv_iconst (v := 1) C.x C.b dX3_isStretch_35 (by decide) ?_
    refine lv_iconst (v := 1) C.x C.b dX3_isStretch_36 (by decide) ?_
    refine z_callV C hR hS hl (n := 3) (C1 := RX3) (T := TX3) (N := 35) (ci := 3) (y := yX3_goes) (bytes := cX3_goes) (maxL := 4) (rt := (some .boolean)) (As := [.int 0, .int 1, .int 1]) (rest := []) h.1 rfl (lw_V q1758 q1760 qs28 q82 q1761) hdV_X3_goes (by decide) rfl rfl (Nat.le_of_ble_eq_true rfl) dX3_isStretch_37 h.2 (fun r g_3 hk_ => ?_) (fun x g1 h => z_out C hQ h)
    clear h; obtain ⟨v_4, rfl, zb_, h⟩ := hk_
    show GW X E 4 g_3 40 [(0, .ref a0), (1, .int x1), (2, .int x2), (3, .int x3)] [.int v_4]
    intro H locs ls hR hS hl
    exact z_zret C hQ (zbo_n h.1) dX3_isStretch_40 h.2 H locs ls hR hS hl
  · have h := h2 c; clear h1 h2
    refine lv_iload_n C.x C.b dX3_isStretch_8 rfl (lv_at hl 2 rfl) ?_
    refine lv_iconst (v := 0) C.x C.b dX3_isStretch_9 (by decide) ?_
    refine lv_sipush (v := 11000) C.x C.b dX3_isStretch_10 (by decide) ?_
    refine z_callS C hR hS hl (n := 3) (y := yX3_in) (bytes := cX3_in) (maxL := 3) (rt := (some .boolean)) (As := [.int x2, .int 0, .int 11000]) (rest := [.ref a0]) (lw_S q1755 q1756 q82 q1757) hdS_X3_in (by decide) rfl rfl (Nat.le_of_ble_eq_true rfl) dX3_isStretch_13 h (fun r g_5 hk_ => ?_) (fun x g1 h => z_out C hQ h)
    clear h; obtain ⟨v_6, rfl, zb_, h⟩ := hk_
    show GW X E 4 g_5 16 [(0, .ref a0), (1, .int x1), (2, .int x2), (3, .int x3)] [.int v_6, .ref a0]
    intro H locs ls hR hS hl
    obtain ⟨h1, h2⟩ := h
    refine lv_if_eq (tgt := 34) C.x C.b dX3_isStretch_16 (by decide) (fun c => ?_) (fun c => ?_)
    · have h := h1 c; clear h1 h2
      refine lv_iconst (v := 0) C.x C.b dX3_isStretch_34 (by decide) ?_
      refine lv_iconst (v := 1) C.x C.b dX3_isStretch_35 (by decide) ?_
      refine lv_iconst (v := 1) C.x C.b dX3_isStretch_36 (by decide) ?_
      refine z_callV C hR hS hl (n := 3) (C1 := RX3) (T := TX3) (N := 35) (ci := 3) (y := yX3_goes) (bytes := cX3_goes) (maxL := 4) (rt := (some .boolean)) (As := [.int 0, .int 1, .int 1]) (rest := []) h.1 rfl (lw_V q1758 q1760 qs28 q82 q1761) hdV_X3_goes (by decide) rfl rfl (Nat.le_of_ble_eq_true rfl) dX3_isStretch_37 h.2 (fun r g_7 hk_ => ?_) (fun x g1 h => z_out C hQ h)
      clear h; obtain ⟨v_8, rfl, zb_, h⟩ := hk_
      show GW X E 4 g_7 40 [(0, .ref a0), (1, .int x1), (2, .int x2), (3, .int x3)] [.int v_8]
      intro H locs ls hR hS hl
      exact z_zret C hQ (zbo_n h.1) dX3_isStretch_40 h.2 H locs ls hR hS hl
    · have h := h2 c; clear h1 h2
      refine lv_iload_n C.x C.b dX3_isStretch_19 rfl (lv_at hl 3 rfl) ?_
      refine lv_iload_n C.x C.b dX3_isStretch_20 rfl (lv_at hl 2 rfl) ?_
      refine lv_sipush (v := 11000) C.x C.b dX3_isStretch_21 (by decide) ?_
      refine z_callS C hR hS hl (n := 3) (y := yX3_in) (bytes := cX3_in) (maxL := 3) (rt := (some .boolean)) (As := [.int x3, .int x2, .int 11000]) (rest := [.ref a0]) (lw_S q1755 q1756 q82 q1757) hdS_X3_in (by decide) rfl rfl (Nat.le_of_ble_eq_true rfl) dX3_isStretch_24 h (fun r g_9 hk_ => ?_) (fun x g1 h => z_out C hQ h)
      clear h; obtain ⟨v_10, rfl, zb_, h⟩ := hk_
      show GW X E 4 g_9 27 [(0, .ref a0), (1, .int x1), (2, .int x2), (3, .int x3)] [.int v_10, .ref a0]
      intro H locs ls hR hS hl
      obtain ⟨h1, h2⟩ := h
      refine lv_if_eq (tgt := 34) C.x C.b dX3_isStretch_27 (by decide) (fun c => ?_) (fun c => ?_)
      · have h := h1 c; clear h1 h2
        refine lv_iconst (v := 0) C.x C.b dX3_isStretch_34 (by decide) ?_
        refine lv_iconst (v := 1) C.x C.b dX3_isStretch_35 (by decide) ?_
        refine lv_iconst (v := 1) C.x C.b dX3_isStretch_36 (by decide) ?_
        refine z_callV C hR hS hl (n := 3) (C1 := RX3) (T := TX3) (N := 35) (ci := 3) (y := yX3_goes) (bytes := cX3_goes) (maxL := 4) (rt := (some .boolean)) (As := [.int 0, .int 1, .int 1]) (rest := []) h.1 rfl (lw_V q1758 q1760 qs28 q82 q1761) hdV_X3_goes (by decide) rfl rfl (Nat.le_of_ble_eq_true rfl) dX3_isStretch_37 h.2 (fun r g_11 hk_ => ?_) (fun x g1 h => z_out C hQ h)
        clear h; obtain ⟨v_12, rfl, zb_, h⟩ := hk_
        show GW X E 4 g_11 40 [(0, .ref a0), (1, .int x1), (2, .int x2), (3, .int x3)] [.int v_12]
        intro H locs ls hR hS hl
        exact z_zret C hQ (zbo_n h.1) dX3_isStretch_40 h.2 H locs ls hR hS hl
      · have h := h2 c; clear h1 h2
        refine lv_iconst (v := 1) C.x C.b dX3_isStretch_30 (by decide) ?_
        refine lv_goto (tgt := 35) C.x C.b dX3_isStretch_31 (by decide) ?_
        refine lv_iconst (v := 1) C.x C.b dX3_isStretch_35 (by decide) ?_
        refine lv_iconst (v := 1) C.x C.b dX3_isStretch_36 (by decide) ?_
        refine z_callV C hR hS hl (n := 3) (C1 := RX3) (T := TX3) (N := 35) (ci := 3) (y := yX3_goes) (bytes := cX3_goes) (maxL := 4) (rt := (some .boolean)) (As := [.int 1, .int 1, .int 1]) (rest := []) h.1 rfl (lw_V q1758 q1760 qs28 q82 q1761) hdV_X3_goes (by decide) rfl rfl (Nat.le_of_ble_eq_true rfl) dX3_isStretch_37 h.2 (fun r g_13 hk_ => ?_) (fun x g1 h => z_out C hQ h)
        clear h; obtain ⟨v_14, rfl, zb_, h⟩ := hk_
        show GW X E 4 g_13 40 [(0, .ref a0), (1, .int x1), (2, .int x2), (3, .int x3)] [.int v_14]
        intro H locs ls hR hS hl
        exact z_zret C hQ (zbo_n h.1) dX3_isStretch_40 h.2 H locs ls hR hS hl
theorem hdV_X3_isStretch : yX3_isStretch.cls = RX3 ∧ yX3_isStretch.cls ≠ "java/lang/invoke/MethodHandle" ∧ yX3_isStretch.cls ≠ "java/lang/invoke/VarHandle" ∧ (parseMethodDescriptor yX3_isStretch.desc).map (fun d => d.parameters.length) = some 3 := by decide +kernel
set_option maxHeartbeats 4000000 in
theorem bX3_count_18 {X : zX} {d : Nat} {E : zM} {K : Option Value → zG → Prop} {KX : String → zG → Prop} (C : zC X (d + 1) E RX3 cX3_count 6 (some .int) "count") (hQ : zQ X E K KX) (g : zG) (a0 : Nat) (x1 : Int32) (x2 : Int32) (x3 : Int32) (x4 : Int32) (x5 : Int32) (h : ∃ (fs_1 : List Value) (v_2 : Int32), zGo g 3 a0 = some fs_1 ∧ fs_1[3]? = some (.int v_2) ∧ (v_2 ≤ x5 → K (some (.int x4)) g) ∧ (¬ v_2 ≤ x5 → ∃ (fs_3 : List Value) (a_4 : Nat), zGo g 3 a0 = some fs_3 ∧ fs_3[8]? = some (.ref a_4) ∧ ∃ (n_5 : Nat) (f_6 : Nat → Int32), zGi g 8 a_4 = some (n_5, f_6) ∧ vp_in x5 n_5 ∧ ∀ v_7 : Int32, v_7 = f_6 x5.toNatClampNeg → (¬ v_7 = x1 → GW X E 6 g 18 [(0, .ref a0), (1, .int x1), (2, .int x2), (3, .int x3), (4, .int (x4 + 0)), (5, .int (x5 + 1))] []) ∧ (v_7 = x1 → ∃ (fs_8 : List Value) (a_9 : Nat), zGo g 3 a0 = some fs_8 ∧ fs_8[7]? = some (.ref a_9) ∧ ∃ (n_10 : Nat) (f_11 : Nat → Int32), zGi g 7 a_9 = some (n_10, f_11) ∧ vp_in x5 n_10 ∧ ∀ v_12 : Int32, v_12 = f_11 x5.toNatClampNeg → zCal X d yX3_in wX3_in [.int v_12, .int x2, .int x3] g (fun r g_13 => ∃ v_14 : Int32, r = some (.int v_14) ∧ zbo v_14 ∧ (v_14 = 0 → GW X E 6 g_13 18 [(0, .ref a0), (1, .int x1), (2, .int x2), (3, .int x3), (4, .int (x4 + 0)), (5, .int (x5 + 1))] []) ∧ (¬ v_14 = 0 → GW X E 6 g_13 18 [(0, .ref a0), (1, .int x1), (2, .int x2), (3, .int x3), (4, .int (x4 + 1)), (5, .int (x5 + 1))] [])) KX))) : GW X E 6 g 18 [(0, .ref a0), (1, .int x1), (2, .int x2), (3, .int x3), (4, .int x4), (5, .int x5)] [] := by
  intro H locs ls hR hS hl
  refine lv_iload C.x C.b dX3_count_18 (lv_at hl 5 rfl) ?_
  refine lv_aload_n C.x C.b dX3_count_20 rfl (lv_at hl 0 rfl) ?_
  obtain ⟨fs_1, v_2, q1, q2, h⟩ := h
  refine z_get C hR q1 rfl (ci := 3) rfl in_X3 3 (by decide) q1640 (fun _ h => h) q2 dX3_count_21 ?_
  obtain ⟨h1, h2⟩ := h
  refine lv_icmp_ge (tgt := 69) C.x C.b dX3_count_24 (by decide) (fun c => ?_) (fun c => ?_)
  · have h := h1 c; clear h1 h2
    refine lv_iload C.x C.b dX3_count_69 (lv_at hl 4 rfl) ?_
    exact z_iret C hQ dX3_count_71 h H locs ls hR hS hl
  · have h := h2 c; clear h1 h2
    refine lv_iload C.x C.b dX3_count_27 (lv_at hl 4 rfl) ?_
    refine lv_aload_n C.x C.b dX3_count_29 rfl (lv_at hl 0 rfl) ?_
    obtain ⟨fs_3, a_4, q1, q2, h⟩ := h
    refine z_get C hR q1 rfl (ci := 3) rfl in_X3 8 (by decide) q1645 (fun _ h => h) q2 dX3_count_30 ?_
    refine lv_iload C.x C.b dX3_count_33 (lv_at hl 5 rfl) ?_
    obtain ⟨n_5, f_6, q1, q2, h⟩ := h
    refine z_iald C hR q1 (by decide) q2 dX3_count_35 ?_
    have h := h _ rfl
    generalize f_6 x5.toNatClampNeg = v_7 at h ⊢
    refine lv_iload_n C.x C.b dX3_count_36 rfl (lv_at hl 1 rfl) ?_
    obtain ⟨h1, h2⟩ := h
    refine lv_icmp_ne (tgt := 59) C.x C.b dX3_count_37 (by decide) (fun c => ?_) (fun c => ?_)
    · have h := h1 c; clear h1 h2
      refine lv_iconst (v := 0) C.x C.b dX3_count_59 (by decide) ?_
      refine lv_iadd C.x C.b dX3_count_60 ?_
      refine lv_istore (lv' := [(4, .int (x4 + 0)), (0, .ref a0), (1, .int x1), (2, .int x2), (3, .int x3), (5, .int x5)]) C.x C.b dX3_count_61 hl (by decide) rfl (fun ls hl => ?_)
      refine lv_iinc (v := x5 + 1) (lv' := [(5, .int (x5 + 1)), (4, .int (x4 + 0)), (0, .ref a0), (1, .int x1), (2, .int x2), (3, .int x3)]) C.x C.b dX3_count_63 hl (k := 5) rfl rfl (by decide) rfl (fun ls hl => ?_)
      refine lv_goto (tgt := 18) C.x C.b dX3_count_66 (by decide) ?_
      exact h H locs ls hR hS (lv_sub hl [2, 3, 4, 5, 1, 0] rfl)
    · have h := h2 c; clear h1 h2
      refine lv_aload_n C.x C.b dX3_count_40 rfl (lv_at hl 0 rfl) ?_
      obtain ⟨fs_8, a_9, q1, q2, h⟩ := h
      refine z_get C hR q1 rfl (ci := 3) rfl in_X3 7 (by decide) q1644 (fun _ h => h) q2 dX3_count_41 ?_
      refine lv_iload C.x C.b dX3_count_44 (lv_at hl 5 rfl) ?_
      obtain ⟨n_10, f_11, q1, q2, h⟩ := h
      refine z_iald C hR q1 (by decide) q2 dX3_count_46 ?_
      have h := h _ rfl
      generalize f_11 x5.toNatClampNeg = v_12 at h ⊢
      refine lv_iload_n C.x C.b dX3_count_47 rfl (lv_at hl 2 rfl) ?_
      refine lv_iload_n C.x C.b dX3_count_48 rfl (lv_at hl 3 rfl) ?_
      refine z_callS C hR hS hl (n := 3) (y := yX3_in) (bytes := cX3_in) (maxL := 3) (rt := (some .boolean)) (As := [.int v_12, .int x2, .int x3]) (rest := [.int x4]) (lw_S q1755 q1756 q82 q1757) hdS_X3_in (by decide) rfl rfl (Nat.le_of_ble_eq_true rfl) dX3_count_49 h (fun r g_13 hk_ => ?_) (fun x g1 h => z_out C hQ h)
      clear h; obtain ⟨v_14, rfl, zb_, h⟩ := hk_
      show GW X E 6 g_13 52 [(0, .ref a0), (1, .int x1), (2, .int x2), (3, .int x3), (4, .int x4), (5, .int x5)] [.int v_14, .int x4]
      intro H locs ls hR hS hl
      obtain ⟨h1, h2⟩ := h
      refine lv_if_eq (tgt := 59) C.x C.b dX3_count_52 (by decide) (fun c => ?_) (fun c => ?_)
      · have h := h1 c; clear h1 h2
        refine lv_iconst (v := 0) C.x C.b dX3_count_59 (by decide) ?_
        refine lv_iadd C.x C.b dX3_count_60 ?_
        refine lv_istore (lv' := [(4, .int (x4 + 0)), (0, .ref a0), (1, .int x1), (2, .int x2), (3, .int x3), (5, .int x5)]) C.x C.b dX3_count_61 hl (by decide) rfl (fun ls hl => ?_)
        refine lv_iinc (v := x5 + 1) (lv' := [(5, .int (x5 + 1)), (4, .int (x4 + 0)), (0, .ref a0), (1, .int x1), (2, .int x2), (3, .int x3)]) C.x C.b dX3_count_63 hl (k := 5) rfl rfl (by decide) rfl (fun ls hl => ?_)
        refine lv_goto (tgt := 18) C.x C.b dX3_count_66 (by decide) ?_
        exact h H locs ls hR hS (lv_sub hl [2, 3, 4, 5, 1, 0] rfl)
      · have h := h2 c; clear h1 h2
        refine lv_iconst (v := 1) C.x C.b dX3_count_55 (by decide) ?_
        refine lv_goto (tgt := 60) C.x C.b dX3_count_56 (by decide) ?_
        refine lv_iadd C.x C.b dX3_count_60 ?_
        refine lv_istore (lv' := [(4, .int (x4 + 1)), (0, .ref a0), (1, .int x1), (2, .int x2), (3, .int x3), (5, .int x5)]) C.x C.b dX3_count_61 hl (by decide) rfl (fun ls hl => ?_)
        refine lv_iinc (v := x5 + 1) (lv' := [(5, .int (x5 + 1)), (4, .int (x4 + 1)), (0, .ref a0), (1, .int x1), (2, .int x2), (3, .int x3)]) C.x C.b dX3_count_63 hl (k := 5) rfl rfl (by decide) rfl (fun ls hl => ?_)
        refine lv_goto (tgt := 18) C.x C.b dX3_count_66 (by decide) ?_
        exact h H locs ls hR hS (lv_sub hl [2, 3, 4, 5, 1, 0] rfl)
set_option maxHeartbeats 4000000 in
theorem mX3_count {X : zX} {d : Nat} {g : zG} {K : Option Value → zG → Prop} {KX : String → zG → Prop} (hok : zOk X) (a0 : Nat) (x1 : Int32) (x2 : Int32) (x3 : Int32) (h : ∀ E : zM, zC X (d + 1) E RX3 cX3_count 6 (some .int) "count" → zQ X E K KX → zIs g 3 a0 ∧ zCal X d yX3_isStretch wX3_isStretch [.ref a0, .int x1, .int x2, .int x3] g (fun r g_1 => ∃ v_2 : Int32, r = some (.int v_2) ∧ zbo v_2 ∧ (¬ v_2 = 0 → GW X E 6 g_1 18 [(0, .ref a0), (1, .int x1), (2, .int x2), (3, .int x3), (4, .int 0), (5, .int 0)] []) ∧ (v_2 = 0 → K (some (.int 0)) g_1)) KX) : zCal X (d + 1) yX3_count wX3_count [.ref a0, .int x1, .int x2, .int x3] g K KX := by
  refine z_enter hok pn_X3 (Nat.le_of_ble_eq_true rfl) (fun E C hQ => ?_)
  have C : zC X (d + 1) E RX3 cX3_count 6 (some .int) "count" := C
  have h := h E C hQ
  show GW X E 6 g 0 [(0, .ref a0), (1, .int x1), (2, .int x2), (3, .int x3)] []
  intro H locs ls hR hS hl
  refine lv_aload_n C.x C.b dX3_count_0 rfl (lv_at hl 0 rfl) ?_
  refine lv_iload_n C.x C.b dX3_count_1 rfl (lv_at hl 1 rfl) ?_
  refine lv_iload_n C.x C.b dX3_count_2 rfl (lv_at hl 2 rfl) ?_
  refine lv_iload_n C.x C.b dX3_count_3 rfl (lv_at hl 3 rfl) ?_
  refine z_callV C hR hS hl (n := 3) (C1 := RX3) (T := TX3) (N := 35) (ci := 3) (y := yX3_isStretch) (bytes := cX3_isStretch) (maxL := 4) (rt := (some .boolean)) (As := [.int x1, .int x2, .int x3]) (rest := []) h.1 rfl (lw_V q1992 q1994 qs57 q82 q1995) hdV_X3_isStretch (by decide) rfl rfl (Nat.le_of_ble_eq_true rfl) dX3_count_4 h.2 (fun r g_1 hk_ => ?_) (fun x g1 h => z_out C hQ h)
  clear h; obtain ⟨v_2, rfl, zb_, h⟩ := hk_
  show GW X E 6 g_1 7 [(0, .ref a0), (1, .int x1), (2, .int x2), (3, .int x3)] [.int v_2]
  intro H locs ls hR hS hl
  obtain ⟨h1, h2⟩ := h
  refine lv_if_ne (tgt := 12) C.x C.b dX3_count_7 (by decide) (fun c => ?_) (fun c => ?_)
  · have h := h1 c; clear h1 h2
    refine lv_iconst (v := 0) C.x C.b dX3_count_12 (by decide) ?_
    refine lv_istore (lv' := [(4, .int 0), (0, .ref a0), (1, .int x1), (2, .int x2), (3, .int x3)]) C.x C.b dX3_count_13 hl (by decide) rfl (fun ls hl => ?_)
    refine lv_iconst (v := 0) C.x C.b dX3_count_15 (by decide) ?_
    refine lv_istore (lv' := [(5, .int 0), (4, .int 0), (0, .ref a0), (1, .int x1), (2, .int x2), (3, .int x3)]) C.x C.b dX3_count_16 hl (by decide) rfl (fun ls hl => ?_)
    exact h H locs ls hR hS (lv_sub hl [2, 3, 4, 5, 1, 0] rfl)
  · have h := h2 c; clear h1 h2
    refine lv_iconst (v := 0) C.x C.b dX3_count_10 (by decide) ?_
    exact z_iret C hQ dX3_count_11 h H locs ls hR hS hl
set_option maxHeartbeats 4000000 in
theorem bX3_greatest_20 {X : zX} {d : Nat} {E : zM} {K : Option Value → zG → Prop} {KX : String → zG → Prop} (C : zC X (d + 1) E RX3 cX3_greatest 6 (some .int) "greatest") (hQ : zQ X E K KX) (g : zG) (a0 : Nat) (x1 : Int32) (x2 : Int32) (x3 : Int32) (x4 : Int32) (x5 : Int32) (h : ∃ (fs_1 : List Value) (v_2 : Int32), zGo g 3 a0 = some fs_1 ∧ fs_1[3]? = some (.int v_2) ∧ (v_2 ≤ x5 → K (some (.int x4)) g) ∧ (¬ v_2 ≤ x5 → ∃ (fs_3 : List Value) (a_4 : Nat), zGo g 3 a0 = some fs_3 ∧ fs_3[8]? = some (.ref a_4) ∧ ∃ (n_5 : Nat) (f_6 : Nat → Int32), zGi g 8 a_4 = some (n_5, f_6) ∧ vp_in x5 n_5 ∧ ∀ v_7 : Int32, v_7 = f_6 x5.toNatClampNeg → (¬ v_7 = x1 → GW X E 6 g 20 [(0, .ref a0), (1, .int x1), (2, .int x2), (3, .int x3), (4, .int x4), (5, .int (x5 + 1))] []) ∧ (v_7 = x1 → ∃ (fs_8 : List Value) (a_9 : Nat), zGo g 3 a0 = some fs_8 ∧ fs_8[7]? = some (.ref a_9) ∧ ∃ (n_10 : Nat) (f_11 : Nat → Int32), zGi g 7 a_9 = some (n_10, f_11) ∧ vp_in x5 n_10 ∧ ∀ v_12 : Int32, v_12 = f_11 x5.toNatClampNeg → zCal X d yX3_in wX3_in [.int v_12, .int x2, .int x3] g (fun r g_13 => ∃ v_14 : Int32, r = some (.int v_14) ∧ zbo v_14 ∧ (v_14 = 0 → GW X E 6 g_13 20 [(0, .ref a0), (1, .int x1), (2, .int x2), (3, .int x3), (4, .int x4), (5, .int (x5 + 1))] []) ∧ (¬ v_14 = 0 → ∃ (fs_15 : List Value) (a_16 : Nat), zGo g_13 3 a0 = some fs_15 ∧ fs_15[10]? = some (.ref a_16) ∧ ∃ (n_17 : Nat) (f_18 : Nat → Int32), zGi g_13 10 a_16 = some (n_17, f_18) ∧ vp_in x5 n_17 ∧ ∀ v_19 : Int32, v_19 = f_18 x5.toNatClampNeg → (v_19 ≤ x4 → GW X E 6 g_13 20 [(0, .ref a0), (1, .int x1), (2, .int x2), (3, .int x3), (4, .int x4), (5, .int (x5 + 1))] []) ∧ (¬ v_19 ≤ x4 → ∃ (fs_20 : List Value) (a_21 : Nat), zGo g_13 3 a0 = some fs_20 ∧ fs_20[10]? = some (.ref a_21) ∧ ∃ (n_22 : Nat) (f_23 : Nat → Int32), zGi g_13 10 a_21 = some (n_22, f_23) ∧ vp_in x5 n_22 ∧ ∀ v_24 : Int32, v_24 = f_23 x5.toNatClampNeg → GW X E 6 g_13 20 [(0, .ref a0), (1, .int x1), (2, .int x2), (3, .int x3), (4, .int v_24), (5, .int (x5 + 1))] []))) KX))) : GW X E 6 g 20 [(0, .ref a0), (1, .int x1), (2, .int x2), (3, .int x3), (4, .int x4), (5, .int x5)] [] := by
  intro H locs ls hR hS hl
  refine lv_iload C.x C.b dX3_greatest_20 (lv_at hl 5 rfl) ?_
  refine lv_aload_n C.x C.b dX3_greatest_22 rfl (lv_at hl 0 rfl) ?_
  obtain ⟨fs_1, v_2, q1, q2, h⟩ := h
  refine z_get C hR q1 rfl (ci := 3) rfl in_X3 3 (by decide) q1640 (fun _ h => h) q2 dX3_greatest_23 ?_
  obtain ⟨h1, h2⟩ := h
  refine lv_icmp_ge (tgt := 87) C.x C.b dX3_greatest_26 (by decide) (fun c => ?_) (fun c => ?_)
  · have h := h1 c; clear h1 h2
    refine lv_iload C.x C.b dX3_greatest_87 (lv_at hl 4 rfl) ?_
    exact z_iret C hQ dX3_greatest_89 h H locs ls hR hS hl
  · have h := h2 c; clear h1 h2
    refine lv_aload_n C.x C.b dX3_greatest_29 rfl (lv_at hl 0 rfl) ?_
    obtain ⟨fs_3, a_4, q1, q2, h⟩ := h
    refine z_get C hR q1 rfl (ci := 3) rfl in_X3 8 (by decide) q1645 (fun _ h => h) q2 dX3_greatest_30 ?_
    refine lv_iload C.x C.b dX3_greatest_33 (lv_at hl 5 rfl) ?_
    obtain ⟨n_5, f_6, q1, q2, h⟩ := h
    refine z_iald C hR q1 (by decide) q2 dX3_greatest_35 ?_
    have h := h _ rfl
    generalize f_6 x5.toNatClampNeg = v_7 at h ⊢
    refine lv_iload_n C.x C.b dX3_greatest_36 rfl (lv_at hl 1 rfl) ?_
    obtain ⟨h1, h2⟩ := h
    refine lv_icmp_ne (tgt := 77) C.x C.b dX3_greatest_37 (by decide) (fun c => ?_) (fun c => ?_)
    · have h := h1 c; clear h1 h2
      refine lv_iload C.x C.b dX3_greatest_77 (lv_at hl 4 rfl) ?_
      refine lv_istore (lv' := [(4, .int x4), (0, .ref a0), (1, .int x1), (2, .int x2), (3, .int x3), (5, .int x5)]) C.x C.b dX3_greatest_79 hl (by decide) rfl (fun ls hl => ?_)
      refine lv_iinc (v := x5 + 1) (lv' := [(5, .int (x5 + 1)), (4, .int x4), (0, .ref a0), (1, .int x1), (2, .int x2), (3, .int x3)]) C.x C.b dX3_greatest_81 hl (k := 5) rfl rfl (by decide) rfl (fun ls hl => ?_)
      refine lv_goto (tgt := 20) C.x C.b dX3_greatest_84 (by decide) ?_
      exact h H locs ls hR hS (lv_sub hl [2, 3, 4, 5, 1, 0] rfl)
    · have h := h2 c; clear h1 h2
      refine lv_aload_n C.x C.b dX3_greatest_40 rfl (lv_at hl 0 rfl) ?_
      obtain ⟨fs_8, a_9, q1, q2, h⟩ := h
      refine z_get C hR q1 rfl (ci := 3) rfl in_X3 7 (by decide) q1644 (fun _ h => h) q2 dX3_greatest_41 ?_
      refine lv_iload C.x C.b dX3_greatest_44 (lv_at hl 5 rfl) ?_
      obtain ⟨n_10, f_11, q1, q2, h⟩ := h
      refine z_iald C hR q1 (by decide) q2 dX3_greatest_46 ?_
      have h := h _ rfl
      generalize f_11 x5.toNatClampNeg = v_12 at h ⊢
      refine lv_iload_n C.x C.b dX3_greatest_47 rfl (lv_at hl 2 rfl) ?_
      refine lv_iload_n C.x C.b dX3_greatest_48 rfl (lv_at hl 3 rfl) ?_
      refine z_callS C hR hS hl (n := 3) (y := yX3_in) (bytes := cX3_in) (maxL := 3) (rt := (some .boolean)) (As := [.int v_12, .int x2, .int x3]) (rest := []) (lw_S q1755 q1756 q82 q1757) hdS_X3_in (by decide) rfl rfl (Nat.le_of_ble_eq_true rfl) dX3_greatest_49 h (fun r g_13 hk_ => ?_) (fun x g1 h => z_out C hQ h)
      clear h; obtain ⟨v_14, rfl, zb_, h⟩ := hk_
      show GW X E 6 g_13 52 [(0, .ref a0), (1, .int x1), (2, .int x2), (3, .int x3), (4, .int x4), (5, .int x5)] [.int v_14]
      intro H locs ls hR hS hl
      obtain ⟨h1, h2⟩ := h
      refine lv_if_eq (tgt := 77) C.x C.b dX3_greatest_52 (by decide) (fun c => ?_) (fun c => ?_)
      · have h := h1 c; clear h1 h2
        refine lv_iload C.x C.b dX3_greatest_77 (lv_at hl 4 rfl) ?_
        refine lv_istore (lv' := [(4, .int x4), (0, .ref a0), (1, .int x1), (2, .int x2), (3, .int x3), (5, .int x5)]) C.x C.b dX3_greatest_79 hl (by decide) rfl (fun ls hl => ?_)
        refine lv_iinc (v := x5 + 1) (lv' := [(5, .int (x5 + 1)), (4, .int x4), (0, .ref a0), (1, .int x1), (2, .int x2), (3, .int x3)]) C.x C.b dX3_greatest_81 hl (k := 5) rfl rfl (by decide) rfl (fun ls hl => ?_)
        refine lv_goto (tgt := 20) C.x C.b dX3_greatest_84 (by decide) ?_
        exact h H locs ls hR hS (lv_sub hl [2, 3, 4, 5, 1, 0] rfl)
      · have h := h2 c; clear h1 h2
        refine lv_aload_n C.x C.b dX3_greatest_55 rfl (lv_at hl 0 rfl) ?_
        obtain ⟨fs_15, a_16, q1, q2, h⟩ := h
        refine z_get C hR q1 rfl (ci := 3) rfl in_X3 10 (by decide) q1647 (fun _ h => h) q2 dX3_greatest_56 ?_
        refine lv_iload C.x C.b dX3_greatest_59 (lv_at hl 5 rfl) ?_
        obtain ⟨n_17, f_18, q1, q2, h⟩ := h
        refine z_iald C hR q1 (by decide) q2 dX3_greatest_61 ?_
        have h := h _ rfl
        generalize f_18 x5.toNatClampNeg = v_19 at h ⊢
        refine lv_iload C.x C.b dX3_greatest_62 (lv_at hl 4 rfl) ?_
        obtain ⟨h1, h2⟩ := h
        refine lv_icmp_le (tgt := 77) C.x C.b dX3_greatest_64 (by decide) (fun c => ?_) (fun c => ?_)
        · have h := h1 c; clear h1 h2
          refine lv_iload C.x C.b dX3_greatest_77 (lv_at hl 4 rfl) ?_
          refine lv_istore (lv' := [(4, .int x4), (0, .ref a0), (1, .int x1), (2, .int x2), (3, .int x3), (5, .int x5)]) C.x C.b dX3_greatest_79 hl (by decide) rfl (fun ls hl => ?_)
          refine lv_iinc (v := x5 + 1) (lv' := [(5, .int (x5 + 1)), (4, .int x4), (0, .ref a0), (1, .int x1), (2, .int x2), (3, .int x3)]) C.x C.b dX3_greatest_81 hl (k := 5) rfl rfl (by decide) rfl (fun ls hl => ?_)
          refine lv_goto (tgt := 20) C.x C.b dX3_greatest_84 (by decide) ?_
          exact h H locs ls hR hS (lv_sub hl [2, 3, 4, 5, 1, 0] rfl)
        · have h := h2 c; clear h1 h2
          refine lv_aload_n C.x C.b dX3_greatest_67 rfl (lv_at hl 0 rfl) ?_
          obtain ⟨fs_20, a_21, q1, q2, h⟩ := h
          refine z_get C hR q1 rfl (ci := 3) rfl in_X3 10 (by decide) q1647 (fun _ h => h) q2 dX3_greatest_68 ?_
          refine lv_iload C.x C.b dX3_greatest_71 (lv_at hl 5 rfl) ?_
          obtain ⟨n_22, f_23, q1, q2, h⟩ := h
          refine z_iald C hR q1 (by decide) q2 dX3_greatest_73 ?_
          have h := h _ rfl
          generalize f_23 x5.toNatClampNeg = v_24 at h ⊢
          refine lv_goto (tgt := 79) C.x C.b dX3_greatest_74 (by decide) ?_
          refine lv_istore (lv' := [(4, .int v_24), (0, .ref a0), (1, .int x1), (2, .int x2), (3, .int x3), (5, .int x5)]) C.x C.b dX3_greatest_79 hl (by decide) rfl (fun ls hl => ?_)
          refine lv_iinc (v := x5 + 1) (lv' := [(5, .int (x5 + 1)), (4, .int v_24), (0, .ref a0), (1, .int x1), (2, .int x2), (3, .int x3)]) C.x C.b dX3_greatest_81 hl (k := 5) rfl rfl (by decide) rfl (fun ls hl => ?_)
          refine lv_goto (tgt := 20) C.x C.b dX3_greatest_84 (by decide) ?_
          exact h H locs ls hR hS (lv_sub hl [2, 3, 4, 5, 1, 0] rfl)
set_option maxHeartbeats 4000000 in
theorem mX3_greatest {X : zX} {d : Nat} {g : zG} {K : Option Value → zG → Prop} {KX : String → zG → Prop} (hok : zOk X) (a0 : Nat) (x1 : Int32) (x2 : Int32) (x3 : Int32) (h : ∀ E : zM, zC X (d + 1) E RX3 cX3_greatest 6 (some .int) "greatest" → zQ X E K KX → zIs g 3 a0 ∧ zCal X d yX3_isStretch wX3_isStretch [.ref a0, .int x1, .int x2, .int x3] g (fun r g_1 => ∃ v_2 : Int32, r = some (.int v_2) ∧ zbo v_2 ∧ (¬ v_2 = 0 → GW X E 6 g_1 20 [(0, .ref a0), (1, .int x1), (2, .int x2), (3, .int x3), (4, .int (-1001)), (5, .int 0)] []) ∧ (v_2 = 0 → K (some (.int 0)) g_1)) KX) : zCal X (d + 1) yX3_greatest wX3_greatest [.ref a0, .int x1, .int x2, .int x3] g K KX := by
  refine z_enter hok pn_X3 (Nat.le_of_ble_eq_true rfl) (fun E C hQ => ?_)
  have C : zC X (d + 1) E RX3 cX3_greatest 6 (some .int) "greatest" := C
  have h := h E C hQ
  show GW X E 6 g 0 [(0, .ref a0), (1, .int x1), (2, .int x2), (3, .int x3)] []
  intro H locs ls hR hS hl
  refine lv_aload_n C.x C.b dX3_greatest_0 rfl (lv_at hl 0 rfl) ?_
  refine lv_iload_n C.x C.b dX3_greatest_1 rfl (lv_at hl 1 rfl) ?_
  refine lv_iload_n C.x C.b dX3_greatest_2 rfl (lv_at hl 2 rfl) ?_
  refine lv_iload_n C.x C.b dX3_greatest_3 rfl (lv_at hl 3 rfl) ?_
  refine z_callV C hR hS hl (n := 3) (C1 := RX3) (T := TX3) (N := 35) (ci := 3) (y := yX3_isStretch) (bytes := cX3_isStretch) (maxL := 4) (rt := (some .boolean)) (As := [.int x1, .int x2, .int x3]) (rest := []) h.1 rfl (lw_V q1992 q1994 qs57 q82 q1995) hdV_X3_isStretch (by decide) rfl rfl (Nat.le_of_ble_eq_true rfl) dX3_greatest_4 h.2 (fun r g_1 hk_ => ?_) (fun x g1 h => z_out C hQ h)
  clear h; obtain ⟨v_2, rfl, zb_, h⟩ := hk_
  show GW X E 6 g_1 7 [(0, .ref a0), (1, .int x1), (2, .int x2), (3, .int x3)] [.int v_2]
  intro H locs ls hR hS hl
  obtain ⟨h1, h2⟩ := h
  refine lv_if_ne (tgt := 12) C.x C.b dX3_greatest_7 (by decide) (fun c => ?_) (fun c => ?_)
  · have h := h1 c; clear h1 h2
    refine lv_sipush (v := (-1001)) C.x C.b dX3_greatest_12 (by decide) ?_
    refine lv_istore (lv' := [(4, .int (-1001)), (0, .ref a0), (1, .int x1), (2, .int x2), (3, .int x3)]) C.x C.b dX3_greatest_15 hl (by decide) rfl (fun ls hl => ?_)
    refine lv_iconst (v := 0) C.x C.b dX3_greatest_17 (by decide) ?_
    refine lv_istore (lv' := [(5, .int 0), (4, .int (-1001)), (0, .ref a0), (1, .int x1), (2, .int x2), (3, .int x3)]) C.x C.b dX3_greatest_18 hl (by decide) rfl (fun ls hl => ?_)
    exact h H locs ls hR hS (lv_sub hl [2, 3, 4, 5, 1, 0] rfl)
  · have h := h2 c; clear h1 h2
    refine lv_iconst (v := 0) C.x C.b dX3_greatest_10 (by decide) ?_
    exact z_iret C hQ dX3_greatest_11 h H locs ls hR hS hl
theorem hdV_X3_greatest : yX3_greatest.cls = RX3 ∧ yX3_greatest.cls ≠ "java/lang/invoke/MethodHandle" ∧ yX3_greatest.cls ≠ "java/lang/invoke/VarHandle" ∧ (parseMethodDescriptor yX3_greatest.desc).map (fun d => d.parameters.length) = some 3 := by decide +kernel
set_option maxHeartbeats 4000000 in
theorem mX3_greatestByAll {X : zX} {d : Nat} {g : zG} {K : Option Value → zG → Prop} {KX : String → zG → Prop} (hok : zOk X) (a0 : Nat) (x1 : Int32) (x2 : Int32) (x3 : Int32) (h : zIs g 3 a0 ∧ zCal X d yX3_greatest wX3_greatest [.ref a0, .int x1, .int x2, .int x3] g (fun r g_1 => ∃ v_2 : Int32, r = some (.int v_2) ∧ K (some (.int v_2)) g_1) KX) : zCal X (d + 1) yX3_greatestByAll wX3_greatestByAll [.ref a0, .int x1, .int x2, .int x3] g K KX := by
  refine z_enter hok pn_X3 (Nat.le_of_ble_eq_true rfl) (fun E C hQ => ?_)
  have C : zC X (d + 1) E RX3 cX3_greatestByAll 4 (some .int) "greatestByAll" := C
  show GW X E 4 g 0 [(0, .ref a0), (1, .int x1), (2, .int x2), (3, .int x3)] []
  intro H locs ls hR hS hl
  refine lv_aload_n C.x C.b dX3_greatestByAll_0 rfl (lv_at hl 0 rfl) ?_
  refine lv_iload_n C.x C.b dX3_greatestByAll_1 rfl (lv_at hl 1 rfl) ?_
  refine lv_iload_n C.x C.b dX3_greatestByAll_2 rfl (lv_at hl 2 rfl) ?_
  refine lv_iload_n C.x C.b dX3_greatestByAll_3 rfl (lv_at hl 3 rfl) ?_
  refine z_callV C hR hS hl (n := 3) (C1 := RX3) (T := TX3) (N := 35) (ci := 3) (y := yX3_greatest) (bytes := cX3_greatest) (maxL := 6) (rt := (some .int)) (As := [.int x1, .int x2, .int x3]) (rest := []) h.1 rfl (lw_V q2004 q1997 q1998 q82 q1999) hdV_X3_greatest (by decide) rfl rfl (Nat.le_of_ble_eq_true rfl) dX3_greatestByAll_4 h.2 (fun r g_1 hk_ => ?_) (fun x g1 h => z_out C hQ h)
  clear h; obtain ⟨v_2, rfl, h⟩ := hk_
  show GW X E 4 g_1 7 [(0, .ref a0), (1, .int x1), (2, .int x2), (3, .int x3)] [.int v_2]
  intro H locs ls hR hS hl
  exact z_iret C hQ dX3_greatestByAll_7 h H locs ls hR hS hl
set_option maxHeartbeats 4000000 in
theorem mX3_isMonitor {X : zX} {d : Nat} {g : zG} {K : Option Value → zG → Prop} {KX : String → zG → Prop} (hok : zOk X) (a0 : Nat) (x1 : Int32) (h : ∃ (fs_1 : List Value) (v_2 : Int32), zGo g 3 a0 = some fs_1 ∧ fs_1[20]? = some (.int v_2) ∧ zCal X d yX3_in wX3_in [.int x1, .int 0, .int (v_2 - 1)] g (fun r g_3 => ∃ v_4 : Int32, r = some (.int v_4) ∧ zbo v_4 ∧ zbo v_4 ∧ K (some (.int v_4)) g_3) KX) : zCal X (d + 1) yX3_isMonitor wX3_isMonitor [.ref a0, .int x1] g K KX := by
  refine z_enter hok pn_X3 (Nat.le_of_ble_eq_true rfl) (fun E C hQ => ?_)
  have C : zC X (d + 1) E RX3 cX3_isMonitor 2 (some .boolean) "isMonitor" := C
  show GW X E 2 g 0 [(0, .ref a0), (1, .int x1)] []
  intro H locs ls hR hS hl
  refine lv_iload_n C.x C.b dX3_isMonitor_0 rfl (lv_at hl 1 rfl) ?_
  refine lv_iconst (v := 0) C.x C.b dX3_isMonitor_1 (by decide) ?_
  refine lv_aload_n C.x C.b dX3_isMonitor_2 rfl (lv_at hl 0 rfl) ?_
  obtain ⟨fs_1, v_2, q1, q2, h⟩ := h
  refine z_get C hR q1 rfl (ci := 3) rfl in_X3 20 (by decide) q1657 (fun _ h => h) q2 dX3_isMonitor_3 ?_
  refine lv_iconst (v := 1) C.x C.b dX3_isMonitor_6 (by decide) ?_
  refine lv_isub C.x C.b dX3_isMonitor_7 ?_
  refine z_callS C hR hS hl (n := 3) (y := yX3_in) (bytes := cX3_in) (maxL := 3) (rt := (some .boolean)) (As := [.int x1, .int 0, .int (v_2 - 1)]) (rest := []) (lw_S q1755 q1756 q82 q1757) hdS_X3_in (by decide) rfl rfl (Nat.le_of_ble_eq_true rfl) dX3_isMonitor_8 h (fun r g_3 hk_ => ?_) (fun x g1 h => z_out C hQ h)
  clear h; obtain ⟨v_4, rfl, zb_, h⟩ := hk_
  show GW X E 2 g_3 11 [(0, .ref a0), (1, .int x1)] [.int v_4]
  intro H locs ls hR hS hl
  exact z_zret C hQ (zbo_n h.1) dX3_isMonitor_11 h.2 H locs ls hR hS hl
theorem hdV_X3_isMonitor : yX3_isMonitor.cls = RX3 ∧ yX3_isMonitor.cls ≠ "java/lang/invoke/MethodHandle" ∧ yX3_isMonitor.cls ≠ "java/lang/invoke/VarHandle" ∧ (parseMethodDescriptor yX3_isMonitor.desc).map (fun d => d.parameters.length) = some 1 := by decide +kernel
set_option maxHeartbeats 4000000 in
theorem mX3_asks {X : zX} {d : Nat} {g : zG} {K : Option Value → zG → Prop} {KX : String → zG → Prop} (hok : zOk X) (a0 : Nat) (x1 : Int32) (x2 : Int32) (h : zIs g 3 a0 ∧ zCal X d yX3_isMonitor wX3_isMonitor [.ref a0, .int x1] g (fun r g_1 => ∃ v_2 : Int32, r = some (.int v_2) ∧ zbo v_2 ∧ (v_2 = 0 → zIs g_1 3 a0 ∧ zCal X d yX3_goes wX3_goes [.ref a0, .int 0, .int 1, .int 1] g_1 (fun r g_3 => ∃ v_4 : Int32, r = some (.int v_4) ∧ zbo v_4 ∧ zbo v_4 ∧ K (some (.int v_4)) g_3) KX) ∧ (¬ v_2 = 0 → zIs g_1 3 a0 ∧ zCal X d yX3_isEvent wX3_isEvent [.ref a0, .int x2] g_1 (fun r g_5 => ∃ v_6 : Int32, r = some (.int v_6) ∧ zbo v_6 ∧ (v_6 = 0 → zIs g_5 3 a0 ∧ zCal X d yX3_goes wX3_goes [.ref a0, .int 0, .int 1, .int 1] g_5 (fun r g_7 => ∃ v_8 : Int32, r = some (.int v_8) ∧ zbo v_8 ∧ zbo v_8 ∧ K (some (.int v_8)) g_7) KX) ∧ (¬ v_6 = 0 → zIs g_5 3 a0 ∧ zCal X d yX3_goes wX3_goes [.ref a0, .int 1, .int 1, .int 1] g_5 (fun r g_9 => ∃ v_10 : Int32, r = some (.int v_10) ∧ zbo v_10 ∧ zbo v_10 ∧ K (some (.int v_10)) g_9) KX)) KX)) KX) : zCal X (d + 1) yX3_asks wX3_asks [.ref a0, .int x1, .int x2] g K KX := by
  refine z_enter hok pn_X3 (Nat.le_of_ble_eq_true rfl) (fun E C hQ => ?_)
  have C : zC X (d + 1) E RX3 cX3_asks 3 (some .boolean) "asks" := C
  show GW X E 3 g 0 [(0, .ref a0), (1, .int x1), (2, .int x2)] []
  intro H locs ls hR hS hl
  refine lv_aload_n C.x C.b dX3_asks_0 rfl (lv_at hl 0 rfl) ?_
  refine lv_aload_n C.x C.b dX3_asks_1 rfl (lv_at hl 0 rfl) ?_
  refine lv_iload_n C.x C.b dX3_asks_2 rfl (lv_at hl 1 rfl) ?_
  refine z_callV C hR hS hl (n := 1) (C1 := RX3) (T := TX3) (N := 35) (ci := 3) (y := yX3_isMonitor) (bytes := cX3_isMonitor) (maxL := 2) (rt := (some .boolean)) (As := [.int x1]) (rest := [.ref a0]) h.1 rfl (lw_V q2013 q2015 qs59 q82 q2016) hdV_X3_isMonitor (by decide) rfl rfl (Nat.le_of_ble_eq_true rfl) dX3_asks_3 h.2 (fun r g_1 hk_ => ?_) (fun x g1 h => z_out C hQ h)
  clear h; obtain ⟨v_2, rfl, zb_, h⟩ := hk_
  show GW X E 3 g_1 6 [(0, .ref a0), (1, .int x1), (2, .int x2)] [.int v_2, .ref a0]
  intro H locs ls hR hS hl
  obtain ⟨h1, h2⟩ := h
  refine lv_if_eq (tgt := 21) C.x C.b dX3_asks_6 (by decide) (fun c => ?_) (fun c => ?_)
  · have h := h1 c; clear h1 h2
    refine lv_iconst (v := 0) C.x C.b dX3_asks_21 (by decide) ?_
    refine lv_iconst (v := 1) C.x C.b dX3_asks_22 (by decide) ?_
    refine lv_iconst (v := 1) C.x C.b dX3_asks_23 (by decide) ?_
    refine z_callV C hR hS hl (n := 3) (C1 := RX3) (T := TX3) (N := 35) (ci := 3) (y := yX3_goes) (bytes := cX3_goes) (maxL := 4) (rt := (some .boolean)) (As := [.int 0, .int 1, .int 1]) (rest := []) h.1 rfl (lw_V q1758 q1760 qs28 q82 q1761) hdV_X3_goes (by decide) rfl rfl (Nat.le_of_ble_eq_true rfl) dX3_asks_24 h.2 (fun r g_3 hk_ => ?_) (fun x g1 h => z_out C hQ h)
    clear h; obtain ⟨v_4, rfl, zb_, h⟩ := hk_
    show GW X E 3 g_3 27 [(0, .ref a0), (1, .int x1), (2, .int x2)] [.int v_4]
    intro H locs ls hR hS hl
    exact z_zret C hQ (zbo_n h.1) dX3_asks_27 h.2 H locs ls hR hS hl
  · have h := h2 c; clear h1 h2
    refine lv_aload_n C.x C.b dX3_asks_9 rfl (lv_at hl 0 rfl) ?_
    refine lv_iload_n C.x C.b dX3_asks_10 rfl (lv_at hl 2 rfl) ?_
    refine z_callV C hR hS hl (n := 1) (C1 := RX3) (T := TX3) (N := 35) (ci := 3) (y := yX3_isEvent) (bytes := cX3_isEvent) (maxL := 2) (rt := (some .boolean)) (As := [.int x2]) (rest := [.ref a0]) h.1 rfl (lw_V q1976 q1978 qs56 q82 q1979) hdV_X3_isEvent (by decide) rfl rfl (Nat.le_of_ble_eq_true rfl) dX3_asks_11 h.2 (fun r g_5 hk_ => ?_) (fun x g1 h => z_out C hQ h)
    clear h; obtain ⟨v_6, rfl, zb_, h⟩ := hk_
    show GW X E 3 g_5 14 [(0, .ref a0), (1, .int x1), (2, .int x2)] [.int v_6, .ref a0]
    intro H locs ls hR hS hl
    obtain ⟨h1, h2⟩ := h
    refine lv_if_eq (tgt := 21) C.x C.b dX3_asks_14 (by decide) (fun c => ?_) (fun c => ?_)
    · have h := h1 c; clear h1 h2
      refine lv_iconst (v := 0) C.x C.b dX3_asks_21 (by decide) ?_
      refine lv_iconst (v := 1) C.x C.b dX3_asks_22 (by decide) ?_
      refine lv_iconst (v := 1) C.x C.b dX3_asks_23 (by decide) ?_
      refine z_callV C hR hS hl (n := 3) (C1 := RX3) (T := TX3) (N := 35) (ci := 3) (y := yX3_goes) (bytes := cX3_goes) (maxL := 4) (rt := (some .boolean)) (As := [.int 0, .int 1, .int 1]) (rest := []) h.1 rfl (lw_V q1758 q1760 qs28 q82 q1761) hdV_X3_goes (by decide) rfl rfl (Nat.le_of_ble_eq_true rfl) dX3_asks_24 h.2 (fun r g_7 hk_ => ?_) (fun x g1 h => z_out C hQ h)
      clear h; obtain ⟨v_8, rfl, zb_, h⟩ := hk_
      show GW X E 3 g_7 27 [(0, .ref a0), (1, .int x1), (2, .int x2)] [.int v_8]
      intro H locs ls hR hS hl
      exact z_zret C hQ (zbo_n h.1) dX3_asks_27 h.2 H locs ls hR hS hl
    · have h := h2 c; clear h1 h2
      refine lv_iconst (v := 1) C.x C.b dX3_asks_17 (by decide) ?_
      refine lv_goto (tgt := 22) C.x C.b dX3_asks_18 (by decide) ?_
      refine lv_iconst (v := 1) C.x C.b dX3_asks_22 (by decide) ?_
      refine lv_iconst (v := 1) C.x C.b dX3_asks_23 (by decide) ?_
      refine z_callV C hR hS hl (n := 3) (C1 := RX3) (T := TX3) (N := 35) (ci := 3) (y := yX3_goes) (bytes := cX3_goes) (maxL := 4) (rt := (some .boolean)) (As := [.int 1, .int 1, .int 1]) (rest := []) h.1 rfl (lw_V q1758 q1760 qs28 q82 q1761) hdV_X3_goes (by decide) rfl rfl (Nat.le_of_ble_eq_true rfl) dX3_asks_24 h.2 (fun r g_9 hk_ => ?_) (fun x g1 h => z_out C hQ h)
      clear h; obtain ⟨v_10, rfl, zb_, h⟩ := hk_
      show GW X E 3 g_9 27 [(0, .ref a0), (1, .int x1), (2, .int x2)] [.int v_10]
      intro H locs ls hR hS hl
      exact z_zret C hQ (zbo_n h.1) dX3_asks_27 h.2 H locs ls hR hS hl
theorem hdV_X3_asks : yX3_asks.cls = RX3 ∧ yX3_asks.cls ≠ "java/lang/invoke/MethodHandle" ∧ yX3_asks.cls ≠ "java/lang/invoke/VarHandle" ∧ (parseMethodDescriptor yX3_asks.desc).map (fun d => d.parameters.length) = some 2 := by decide +kernel
set_option maxHeartbeats 4000000 in
theorem mX3_answer {X : zX} {d : Nat} {g : zG} {K : Option Value → zG → Prop} {KX : String → zG → Prop} (hok : zOk X) (a0 : Nat) (x1 : Int32) (x2 : Int32) (h : zIs g 3 a0 ∧ zCal X d yX3_asks wX3_asks [.ref a0, .int x1, .int x2] g (fun r g_1 => ∃ v_2 : Int32, r = some (.int v_2) ∧ zbo v_2 ∧ (v_2 = 0 → K (some (.int 0)) g_1) ∧ (¬ v_2 = 0 → ∃ (fs_3 : List Value) (a_4 : Nat), zGo g_1 3 a0 = some fs_3 ∧ fs_3[25]? = some (.ref a_4) ∧ ∃ (n_5 : Nat) (f_6 : Nat → Int32), zGi g_1 25 a_4 = some (n_5, f_6) ∧ vp_in ((80 * x1) + x2) n_5 ∧ ∀ v_7 : Int32, v_7 = f_6 ((80 * x1) + x2).toNatClampNeg → K (some (.int v_7)) g_1)) KX) : zCal X (d + 1) yX3_answer wX3_answer [.ref a0, .int x1, .int x2] g K KX := by
  refine z_enter hok pn_X3 (Nat.le_of_ble_eq_true rfl) (fun E C hQ => ?_)
  have C : zC X (d + 1) E RX3 cX3_answer 3 (some .int) "answer" := C
  show GW X E 3 g 0 [(0, .ref a0), (1, .int x1), (2, .int x2)] []
  intro H locs ls hR hS hl
  refine lv_aload_n C.x C.b dX3_answer_0 rfl (lv_at hl 0 rfl) ?_
  refine lv_iload_n C.x C.b dX3_answer_1 rfl (lv_at hl 1 rfl) ?_
  refine lv_iload_n C.x C.b dX3_answer_2 rfl (lv_at hl 2 rfl) ?_
  refine z_callV C hR hS hl (n := 2) (C1 := RX3) (T := TX3) (N := 35) (ci := 3) (y := yX3_asks) (bytes := cX3_asks) (maxL := 3) (rt := (some .boolean)) (As := [.int x1, .int x2]) (rest := []) h.1 rfl (lw_V q2009 q2011 qs58 q82 q2012) hdV_X3_asks (by decide) rfl rfl (Nat.le_of_ble_eq_true rfl) dX3_answer_3 h.2 (fun r g_1 hk_ => ?_) (fun x g1 h => z_out C hQ h)
  clear h; obtain ⟨v_2, rfl, zb_, h⟩ := hk_
  show GW X E 3 g_1 6 [(0, .ref a0), (1, .int x1), (2, .int x2)] [.int v_2]
  intro H locs ls hR hS hl
  obtain ⟨h1, h2⟩ := h
  refine lv_if_eq (tgt := 23) C.x C.b dX3_answer_6 (by decide) (fun c => ?_) (fun c => ?_)
  · have h := h1 c; clear h1 h2
    refine lv_iconst (v := 0) C.x C.b dX3_answer_23 (by decide) ?_
    exact z_iret C hQ dX3_answer_24 h H locs ls hR hS hl
  · have h := h2 c; clear h1 h2
    refine lv_aload_n C.x C.b dX3_answer_9 rfl (lv_at hl 0 rfl) ?_
    obtain ⟨fs_3, a_4, q1, q2, h⟩ := h
    refine z_get C hR q1 rfl (ci := 3) rfl in_X3 25 (by decide) q1662 (fun _ h => h) q2 dX3_answer_10 ?_
    refine lv_bipush (v := 80) C.x C.b dX3_answer_13 (by decide) ?_
    refine lv_iload_n C.x C.b dX3_answer_15 rfl (lv_at hl 1 rfl) ?_
    refine lv_imul C.x C.b dX3_answer_16 ?_
    refine lv_iload_n C.x C.b dX3_answer_17 rfl (lv_at hl 2 rfl) ?_
    refine lv_iadd C.x C.b dX3_answer_18 ?_
    obtain ⟨n_5, f_6, q1, q2, h⟩ := h
    refine z_iald C hR q1 (by decide) q2 dX3_answer_19 ?_
    have h := h _ rfl
    generalize f_6 ((80 * x1) + x2).toNatClampNeg = v_7 at h ⊢
    refine lv_goto (tgt := 24) C.x C.b dX3_answer_20 (by decide) ?_
    exact z_iret C hQ dX3_answer_24 h H locs ls hR hS hl
theorem hdV_X3_answer : yX3_answer.cls = RX3 ∧ yX3_answer.cls ≠ "java/lang/invoke/MethodHandle" ∧ yX3_answer.cls ≠ "java/lang/invoke/VarHandle" ∧ (parseMethodDescriptor yX3_answer.desc).map (fun d => d.parameters.length) = some 2 := by decide +kernel
set_option maxHeartbeats 4000000 in
theorem mX3_answerAnew {X : zX} {d : Nat} {g : zG} {K : Option Value → zG → Prop} {KX : String → zG → Prop} (hok : zOk X) (a0 : Nat) (x1 : Int32) (x2 : Int32) (h : zIs g 3 a0 ∧ zCal X d yX3_answer wX3_answer [.ref a0, .int x1, .int x2] g (fun r g_1 => ∃ v_2 : Int32, r = some (.int v_2) ∧ K (some (.int v_2)) g_1) KX) : zCal X (d + 1) yX3_answerAnew wX3_answerAnew [.ref a0, .int x1, .int x2] g K KX := by
  refine z_enter hok pn_X3 (Nat.le_of_ble_eq_true rfl) (fun E C hQ => ?_)
  have C : zC X (d + 1) E RX3 cX3_answerAnew 3 (some .int) "answerAnew" := C
  show GW X E 3 g 0 [(0, .ref a0), (1, .int x1), (2, .int x2)] []
  intro H locs ls hR hS hl
  refine lv_aload_n C.x C.b dX3_answerAnew_0 rfl (lv_at hl 0 rfl) ?_
  refine lv_iload_n C.x C.b dX3_answerAnew_1 rfl (lv_at hl 1 rfl) ?_
  refine lv_iload_n C.x C.b dX3_answerAnew_2 rfl (lv_at hl 2 rfl) ?_
  refine z_callV C hR hS hl (n := 2) (C1 := RX3) (T := TX3) (N := 35) (ci := 3) (y := yX3_answer) (bytes := cX3_answer) (maxL := 3) (rt := (some .int)) (As := [.int x1, .int x2]) (rest := []) h.1 rfl (lw_V q2021 q2006 q2007 q82 q2008) hdV_X3_answer (by decide) rfl rfl (Nat.le_of_ble_eq_true rfl) dX3_answerAnew_3 h.2 (fun r g_1 hk_ => ?_) (fun x g1 h => z_out C hQ h)
  clear h; obtain ⟨v_2, rfl, h⟩ := hk_
  show GW X E 3 g_1 6 [(0, .ref a0), (1, .int x1), (2, .int x2)] [.int v_2]
  intro H locs ls hR hS hl
  exact z_iret C hQ dX3_answerAnew_6 h H locs ls hR hS hl
set_option maxHeartbeats 4000000 in
theorem mX3_knownSince {X : zX} {d : Nat} {g : zG} {K : Option Value → zG → Prop} {KX : String → zG → Prop} (hok : zOk X) (a0 : Nat) (x1 : Int32) (x2 : Int32) (h : zIs g 3 a0 ∧ zCal X d yX3_asks wX3_asks [.ref a0, .int x1, .int x2] g (fun r g_1 => ∃ v_2 : Int32, r = some (.int v_2) ∧ zbo v_2 ∧ (v_2 = 0 → K (some (.int 0)) g_1) ∧ (¬ v_2 = 0 → ∃ (fs_3 : List Value) (a_4 : Nat), zGo g_1 3 a0 = some fs_3 ∧ fs_3[26]? = some (.ref a_4) ∧ ∃ (n_5 : Nat) (f_6 : Nat → Int32), zGi g_1 26 a_4 = some (n_5, f_6) ∧ vp_in ((80 * x1) + x2) n_5 ∧ ∀ v_7 : Int32, v_7 = f_6 ((80 * x1) + x2).toNatClampNeg → K (some (.int v_7)) g_1)) KX) : zCal X (d + 1) yX3_knownSince wX3_knownSince [.ref a0, .int x1, .int x2] g K KX := by
  refine z_enter hok pn_X3 (Nat.le_of_ble_eq_true rfl) (fun E C hQ => ?_)
  have C : zC X (d + 1) E RX3 cX3_knownSince 3 (some .int) "knownSince" := C
  show GW X E 3 g 0 [(0, .ref a0), (1, .int x1), (2, .int x2)] []
  intro H locs ls hR hS hl
  refine lv_aload_n C.x C.b dX3_knownSince_0 rfl (lv_at hl 0 rfl) ?_
  refine lv_iload_n C.x C.b dX3_knownSince_1 rfl (lv_at hl 1 rfl) ?_
  refine lv_iload_n C.x C.b dX3_knownSince_2 rfl (lv_at hl 2 rfl) ?_
  refine z_callV C hR hS hl (n := 2) (C1 := RX3) (T := TX3) (N := 35) (ci := 3) (y := yX3_asks) (bytes := cX3_asks) (maxL := 3) (rt := (some .boolean)) (As := [.int x1, .int x2]) (rest := []) h.1 rfl (lw_V q2009 q2011 qs58 q82 q2012) hdV_X3_asks (by decide) rfl rfl (Nat.le_of_ble_eq_true rfl) dX3_knownSince_3 h.2 (fun r g_1 hk_ => ?_) (fun x g1 h => z_out C hQ h)
  clear h; obtain ⟨v_2, rfl, zb_, h⟩ := hk_
  show GW X E 3 g_1 6 [(0, .ref a0), (1, .int x1), (2, .int x2)] [.int v_2]
  intro H locs ls hR hS hl
  obtain ⟨h1, h2⟩ := h
  refine lv_if_eq (tgt := 23) C.x C.b dX3_knownSince_6 (by decide) (fun c => ?_) (fun c => ?_)
  · have h := h1 c; clear h1 h2
    refine lv_iconst (v := 0) C.x C.b dX3_knownSince_23 (by decide) ?_
    exact z_iret C hQ dX3_knownSince_24 h H locs ls hR hS hl
  · have h := h2 c; clear h1 h2
    refine lv_aload_n C.x C.b dX3_knownSince_9 rfl (lv_at hl 0 rfl) ?_
    obtain ⟨fs_3, a_4, q1, q2, h⟩ := h
    refine z_get C hR q1 rfl (ci := 3) rfl in_X3 26 (by decide) q1663 (fun _ h => h) q2 dX3_knownSince_10 ?_
    refine lv_bipush (v := 80) C.x C.b dX3_knownSince_13 (by decide) ?_
    refine lv_iload_n C.x C.b dX3_knownSince_15 rfl (lv_at hl 1 rfl) ?_
    refine lv_imul C.x C.b dX3_knownSince_16 ?_
    refine lv_iload_n C.x C.b dX3_knownSince_17 rfl (lv_at hl 2 rfl) ?_
    refine lv_iadd C.x C.b dX3_knownSince_18 ?_
    obtain ⟨n_5, f_6, q1, q2, h⟩ := h
    refine z_iald C hR q1 (by decide) q2 dX3_knownSince_19 ?_
    have h := h _ rfl
    generalize f_6 ((80 * x1) + x2).toNatClampNeg = v_7 at h ⊢
    refine lv_goto (tgt := 24) C.x C.b dX3_knownSince_20 (by decide) ?_
    exact z_iret C hQ dX3_knownSince_24 h H locs ls hR hS hl
set_option maxHeartbeats 4000000 in
theorem mX3_isAnswer {X : zX} {d : Nat} {g : zG} {K : Option Value → zG → Prop} {KX : String → zG → Prop} (hok : zOk X) (x0 : Int32) (h : zCal X d yX3_in wX3_in [.int x0, .int 0, .int 2] g (fun r g_1 => ∃ v_2 : Int32, r = some (.int v_2) ∧ zbo v_2 ∧ zbo v_2 ∧ K (some (.int v_2)) g_1) KX) : zCal X (d + 1) yX3_isAnswer wX3_isAnswer [.int x0] g K KX := by
  refine z_enter hok pn_X3 (Nat.le_of_ble_eq_true rfl) (fun E C hQ => ?_)
  have C : zC X (d + 1) E RX3 cX3_isAnswer 1 (some .boolean) "isAnswer" := C
  show GW X E 1 g 0 [(0, .int x0)] []
  intro H locs ls hR hS hl
  refine lv_iload_n C.x C.b dX3_isAnswer_0 rfl (lv_at hl 0 rfl) ?_
  refine lv_iconst (v := 0) C.x C.b dX3_isAnswer_1 (by decide) ?_
  refine lv_iconst (v := 2) C.x C.b dX3_isAnswer_2 (by decide) ?_
  refine z_callS C hR hS hl (n := 3) (y := yX3_in) (bytes := cX3_in) (maxL := 3) (rt := (some .boolean)) (As := [.int x0, .int 0, .int 2]) (rest := []) (lw_S q1755 q1756 q82 q1757) hdS_X3_in (by decide) rfl rfl (Nat.le_of_ble_eq_true rfl) dX3_isAnswer_3 h (fun r g_1 hk_ => ?_) (fun x g1 h => z_out C hQ h)
  clear h; obtain ⟨v_2, rfl, zb_, h⟩ := hk_
  show GW X E 1 g_1 6 [(0, .int x0)] [.int v_2]
  intro H locs ls hR hS hl
  exact z_zret C hQ (zbo_n h.1) dX3_isAnswer_6 h.2 H locs ls hR hS hl
theorem hdS_X3_isAnswer : yX3_isAnswer.cls ≠ "java/lang/invoke/MethodHandle" ∧ yX3_isAnswer.cls ≠ "java/lang/invoke/VarHandle" ∧ (parseMethodDescriptor yX3_isAnswer.desc).map (fun d => d.parameters.length) = some 1 := by decide +kernel
set_option maxHeartbeats 4000000 in
theorem bX3_answers_24 {X : zX} {d : Nat} {E : zM} {K : Option Value → zG → Prop} {KX : String → zG → Prop} (C : zC X (d + 1) E RX3 cX3_answers 5 (some .int) "answers") (hQ : zQ X E K KX) (g : zG) (a0 : Nat) (x1 : Int32) (x2 : Int32) (x3 : Int32) (x4 : Int32) (h : ∃ (fs_1 : List Value) (v_2 : Int32), zGo g 3 a0 = some fs_1 ∧ fs_1[3]? = some (.int v_2) ∧ (v_2 ≤ x4 → K (some (.int x3)) g) ∧ (¬ v_2 ≤ x4 → ∃ (fs_3 : List Value) (a_4 : Nat), zGo g 3 a0 = some fs_3 ∧ fs_3[25]? = some (.ref a_4) ∧ ∃ (n_5 : Nat) (f_6 : Nat → Int32), zGi g 25 a_4 = some (n_5, f_6) ∧ vp_in ((80 * x1) + x4) n_5 ∧ ∀ v_7 : Int32, v_7 = f_6 ((80 * x1) + x4).toNatClampNeg → (¬ v_7 = x2 → GW X E 5 g 24 [(0, .ref a0), (1, .int x1), (2, .int x2), (3, .int (x3 + 0)), (4, .int (x4 + 1))] []) ∧ (v_7 = x2 → GW X E 5 g 24 [(0, .ref a0), (1, .int x1), (2, .int x2), (3, .int (x3 + 1)), (4, .int (x4 + 1))] []))) : GW X E 5 g 24 [(0, .ref a0), (1, .int x1), (2, .int x2), (3, .int x3), (4, .int x4)] [] := by
  intro H locs ls hR hS hl
  refine lv_iload C.x C.b dX3_answers_24 (lv_at hl 4 rfl) ?_
  refine lv_aload_n C.x C.b dX3_answers_26 rfl (lv_at hl 0 rfl) ?_
  obtain ⟨fs_1, v_2, q1, q2, h⟩ := h
  refine z_get C hR q1 rfl (ci := 3) rfl in_X3 3 (by decide) q1640 (fun _ h => h) q2 dX3_answers_27 ?_
  obtain ⟨h1, h2⟩ := h
  refine lv_icmp_ge (tgt := 63) C.x C.b dX3_answers_30 (by decide) (fun c => ?_) (fun c => ?_)
  · have h := h1 c; clear h1 h2
    refine lv_iload_n C.x C.b dX3_answers_63 rfl (lv_at hl 3 rfl) ?_
    exact z_iret C hQ dX3_answers_64 h H locs ls hR hS hl
  · have h := h2 c; clear h1 h2
    refine lv_iload_n C.x C.b dX3_answers_33 rfl (lv_at hl 3 rfl) ?_
    refine lv_aload_n C.x C.b dX3_answers_34 rfl (lv_at hl 0 rfl) ?_
    obtain ⟨fs_3, a_4, q1, q2, h⟩ := h
    refine z_get C hR q1 rfl (ci := 3) rfl in_X3 25 (by decide) q1662 (fun _ h => h) q2 dX3_answers_35 ?_
    refine lv_bipush (v := 80) C.x C.b dX3_answers_38 (by decide) ?_
    refine lv_iload_n C.x C.b dX3_answers_40 rfl (lv_at hl 1 rfl) ?_
    refine lv_imul C.x C.b dX3_answers_41 ?_
    refine lv_iload C.x C.b dX3_answers_42 (lv_at hl 4 rfl) ?_
    refine lv_iadd C.x C.b dX3_answers_44 ?_
    obtain ⟨n_5, f_6, q1, q2, h⟩ := h
    refine z_iald C hR q1 (by decide) q2 dX3_answers_45 ?_
    have h := h _ rfl
    generalize f_6 ((80 * x1) + x4).toNatClampNeg = v_7 at h ⊢
    refine lv_iload_n C.x C.b dX3_answers_46 rfl (lv_at hl 2 rfl) ?_
    obtain ⟨h1, h2⟩ := h
    refine lv_icmp_ne (tgt := 54) C.x C.b dX3_answers_47 (by decide) (fun c => ?_) (fun c => ?_)
    · have h := h1 c; clear h1 h2
      refine lv_iconst (v := 0) C.x C.b dX3_answers_54 (by decide) ?_
      refine lv_iadd C.x C.b dX3_answers_55 ?_
      refine lv_istore_n (lv' := [(3, .int (x3 + 0)), (0, .ref a0), (1, .int x1), (2, .int x2), (4, .int x4)]) C.x C.b dX3_answers_56 rfl hl (by decide) rfl (fun ls hl => ?_)
      refine lv_iinc (v := x4 + 1) (lv' := [(4, .int (x4 + 1)), (3, .int (x3 + 0)), (0, .ref a0), (1, .int x1), (2, .int x2)]) C.x C.b dX3_answers_57 hl (k := 4) rfl rfl (by decide) rfl (fun ls hl => ?_)
      refine lv_goto (tgt := 24) C.x C.b dX3_answers_60 (by decide) ?_
      exact h H locs ls hR hS (lv_sub hl [2, 3, 4, 1, 0] rfl)
    · have h := h2 c; clear h1 h2
      refine lv_iconst (v := 1) C.x C.b dX3_answers_50 (by decide) ?_
      refine lv_goto (tgt := 55) C.x C.b dX3_answers_51 (by decide) ?_
      refine lv_iadd C.x C.b dX3_answers_55 ?_
      refine lv_istore_n (lv' := [(3, .int (x3 + 1)), (0, .ref a0), (1, .int x1), (2, .int x2), (4, .int x4)]) C.x C.b dX3_answers_56 rfl hl (by decide) rfl (fun ls hl => ?_)
      refine lv_iinc (v := x4 + 1) (lv' := [(4, .int (x4 + 1)), (3, .int (x3 + 1)), (0, .ref a0), (1, .int x1), (2, .int x2)]) C.x C.b dX3_answers_57 hl (k := 4) rfl rfl (by decide) rfl (fun ls hl => ?_)
      refine lv_goto (tgt := 24) C.x C.b dX3_answers_60 (by decide) ?_
      exact h H locs ls hR hS (lv_sub hl [2, 3, 4, 1, 0] rfl)
set_option maxHeartbeats 4000000 in
theorem mX3_answers {X : zX} {d : Nat} {g : zG} {K : Option Value → zG → Prop} {KX : String → zG → Prop} (hok : zOk X) (a0 : Nat) (x1 : Int32) (x2 : Int32) (h : ∀ E : zM, zC X (d + 1) E RX3 cX3_answers 5 (some .int) "answers" → zQ X E K KX → zIs g 3 a0 ∧ zCal X d yX3_isMonitor wX3_isMonitor [.ref a0, .int x1] g (fun r g_1 => ∃ v_2 : Int32, r = some (.int v_2) ∧ zbo v_2 ∧ zCal X d yX3_isAnswer wX3_isAnswer [.int x2] g_1 (fun r g_3 => ∃ v_4 : Int32, r = some (.int v_4) ∧ zbo v_4 ∧ zIs g_3 3 a0 ∧ zCal X d yX3_goes wX3_goes [.ref a0, .int v_2, .int v_4, .int 1] g_3 (fun r g_5 => ∃ v_6 : Int32, r = some (.int v_6) ∧ zbo v_6 ∧ (¬ v_6 = 0 → GW X E 5 g_5 24 [(0, .ref a0), (1, .int x1), (2, .int x2), (3, .int 0), (4, .int 0)] []) ∧ (v_6 = 0 → K (some (.int 0)) g_5)) KX) KX) KX) : zCal X (d + 1) yX3_answers wX3_answers [.ref a0, .int x1, .int x2] g K KX := by
  refine z_enter hok pn_X3 (Nat.le_of_ble_eq_true rfl) (fun E C hQ => ?_)
  have C : zC X (d + 1) E RX3 cX3_answers 5 (some .int) "answers" := C
  have h := h E C hQ
  show GW X E 5 g 0 [(0, .ref a0), (1, .int x1), (2, .int x2)] []
  intro H locs ls hR hS hl
  refine lv_aload_n C.x C.b dX3_answers_0 rfl (lv_at hl 0 rfl) ?_
  refine lv_aload_n C.x C.b dX3_answers_1 rfl (lv_at hl 0 rfl) ?_
  refine lv_iload_n C.x C.b dX3_answers_2 rfl (lv_at hl 1 rfl) ?_
  refine z_callV C hR hS hl (n := 1) (C1 := RX3) (T := TX3) (N := 35) (ci := 3) (y := yX3_isMonitor) (bytes := cX3_isMonitor) (maxL := 2) (rt := (some .boolean)) (As := [.int x1]) (rest := [.ref a0]) h.1 rfl (lw_V q2013 q2015 qs59 q82 q2016) hdV_X3_isMonitor (by decide) rfl rfl (Nat.le_of_ble_eq_true rfl) dX3_answers_3 h.2 (fun r g_1 hk_ => ?_) (fun x g1 h => z_out C hQ h)
  clear h; obtain ⟨v_2, rfl, zb_, h⟩ := hk_
  show GW X E 5 g_1 6 [(0, .ref a0), (1, .int x1), (2, .int x2)] [.int v_2, .ref a0]
  intro H locs ls hR hS hl
  refine lv_iload_n C.x C.b dX3_answers_6 rfl (lv_at hl 2 rfl) ?_
  refine z_callS C hR hS hl (n := 1) (y := yX3_isAnswer) (bytes := cX3_isAnswer) (maxL := 1) (rt := (some .boolean)) (As := [.int x2]) (rest := [.int v_2, .ref a0]) (lw_S q2030 q2031 q82 q2032) hdS_X3_isAnswer (by decide) rfl rfl (Nat.le_of_ble_eq_true rfl) dX3_answers_7 h (fun r g_3 hk_ => ?_) (fun x g1 h => z_out C hQ h)
  clear h; obtain ⟨v_4, rfl, zb_, h⟩ := hk_
  show GW X E 5 g_3 10 [(0, .ref a0), (1, .int x1), (2, .int x2)] [.int v_4, .int v_2, .ref a0]
  intro H locs ls hR hS hl
  refine lv_iconst (v := 1) C.x C.b dX3_answers_10 (by decide) ?_
  refine z_callV C hR hS hl (n := 3) (C1 := RX3) (T := TX3) (N := 35) (ci := 3) (y := yX3_goes) (bytes := cX3_goes) (maxL := 4) (rt := (some .boolean)) (As := [.int v_2, .int v_4, .int 1]) (rest := []) h.1 rfl (lw_V q1758 q1760 qs28 q82 q1761) hdV_X3_goes (by decide) rfl rfl (Nat.le_of_ble_eq_true rfl) dX3_answers_11 h.2 (fun r g_5 hk_ => ?_) (fun x g1 h => z_out C hQ h)
  clear h; obtain ⟨v_6, rfl, zb_, h⟩ := hk_
  show GW X E 5 g_5 14 [(0, .ref a0), (1, .int x1), (2, .int x2)] [.int v_6]
  intro H locs ls hR hS hl
  obtain ⟨h1, h2⟩ := h
  refine lv_if_ne (tgt := 19) C.x C.b dX3_answers_14 (by decide) (fun c => ?_) (fun c => ?_)
  · have h := h1 c; clear h1 h2
    refine lv_iconst (v := 0) C.x C.b dX3_answers_19 (by decide) ?_
    refine lv_istore_n (lv' := [(3, .int 0), (0, .ref a0), (1, .int x1), (2, .int x2)]) C.x C.b dX3_answers_20 rfl hl (by decide) rfl (fun ls hl => ?_)
    refine lv_iconst (v := 0) C.x C.b dX3_answers_21 (by decide) ?_
    refine lv_istore (lv' := [(4, .int 0), (3, .int 0), (0, .ref a0), (1, .int x1), (2, .int x2)]) C.x C.b dX3_answers_22 hl (by decide) rfl (fun ls hl => ?_)
    exact h H locs ls hR hS (lv_sub hl [2, 3, 4, 1, 0] rfl)
  · have h := h2 c; clear h1 h2
    refine lv_iconst (v := 0) C.x C.b dX3_answers_17 (by decide) ?_
    exact z_iret C hQ dX3_answers_18 h H locs ls hR hS hl
set_option maxHeartbeats 4000000 in
theorem mX3_takenBack {X : zX} {d : Nat} {g : zG} {K : Option Value → zG → Prop} {KX : String → zG → Prop} (hok : zOk X) (a0 : Nat) (x1 : Int32) (h : zIs g 3 a0 ∧ zCal X d yX3_isMonitor wX3_isMonitor [.ref a0, .int x1] g (fun r g_1 => ∃ v_2 : Int32, r = some (.int v_2) ∧ zbo v_2 ∧ zIs g_1 3 a0 ∧ zCal X d yX3_goes wX3_goes [.ref a0, .int v_2, .int 1, .int 1] g_1 (fun r g_3 => ∃ v_4 : Int32, r = some (.int v_4) ∧ zbo v_4 ∧ (v_4 = 0 → K (some (.int 0)) g_3) ∧ (¬ v_4 = 0 → ∃ (fs_5 : List Value) (a_6 : Nat), zGo g_3 3 a0 = some fs_5 ∧ fs_5[24]? = some (.ref a_6) ∧ ∃ (n_7 : Nat) (f_8 : Nat → Int32), zGi g_3 24 a_6 = some (n_7, f_8) ∧ vp_in x1 n_7 ∧ ∀ v_9 : Int32, v_9 = f_8 x1.toNatClampNeg → K (some (.int v_9)) g_3)) KX) KX) : zCal X (d + 1) yX3_takenBack wX3_takenBack [.ref a0, .int x1] g K KX := by
  refine z_enter hok pn_X3 (Nat.le_of_ble_eq_true rfl) (fun E C hQ => ?_)
  have C : zC X (d + 1) E RX3 cX3_takenBack 2 (some .int) "takenBack" := C
  show GW X E 2 g 0 [(0, .ref a0), (1, .int x1)] []
  intro H locs ls hR hS hl
  refine lv_aload_n C.x C.b dX3_takenBack_0 rfl (lv_at hl 0 rfl) ?_
  refine lv_aload_n C.x C.b dX3_takenBack_1 rfl (lv_at hl 0 rfl) ?_
  refine lv_iload_n C.x C.b dX3_takenBack_2 rfl (lv_at hl 1 rfl) ?_
  refine z_callV C hR hS hl (n := 1) (C1 := RX3) (T := TX3) (N := 35) (ci := 3) (y := yX3_isMonitor) (bytes := cX3_isMonitor) (maxL := 2) (rt := (some .boolean)) (As := [.int x1]) (rest := [.ref a0]) h.1 rfl (lw_V q2013 q2015 qs59 q82 q2016) hdV_X3_isMonitor (by decide) rfl rfl (Nat.le_of_ble_eq_true rfl) dX3_takenBack_3 h.2 (fun r g_1 hk_ => ?_) (fun x g1 h => z_out C hQ h)
  clear h; obtain ⟨v_2, rfl, zb_, h⟩ := hk_
  show GW X E 2 g_1 6 [(0, .ref a0), (1, .int x1)] [.int v_2, .ref a0]
  intro H locs ls hR hS hl
  refine lv_iconst (v := 1) C.x C.b dX3_takenBack_6 (by decide) ?_
  refine lv_iconst (v := 1) C.x C.b dX3_takenBack_7 (by decide) ?_
  refine z_callV C hR hS hl (n := 3) (C1 := RX3) (T := TX3) (N := 35) (ci := 3) (y := yX3_goes) (bytes := cX3_goes) (maxL := 4) (rt := (some .boolean)) (As := [.int v_2, .int 1, .int 1]) (rest := []) h.1 rfl (lw_V q1758 q1760 qs28 q82 q1761) hdV_X3_goes (by decide) rfl rfl (Nat.le_of_ble_eq_true rfl) dX3_takenBack_8 h.2 (fun r g_3 hk_ => ?_) (fun x g1 h => z_out C hQ h)
  clear h; obtain ⟨v_4, rfl, zb_, h⟩ := hk_
  show GW X E 2 g_3 11 [(0, .ref a0), (1, .int x1)] [.int v_4]
  intro H locs ls hR hS hl
  obtain ⟨h1, h2⟩ := h
  refine lv_if_eq (tgt := 23) C.x C.b dX3_takenBack_11 (by decide) (fun c => ?_) (fun c => ?_)
  · have h := h1 c; clear h1 h2
    refine lv_iconst (v := 0) C.x C.b dX3_takenBack_23 (by decide) ?_
    exact z_iret C hQ dX3_takenBack_24 h H locs ls hR hS hl
  · have h := h2 c; clear h1 h2
    refine lv_aload_n C.x C.b dX3_takenBack_14 rfl (lv_at hl 0 rfl) ?_
    obtain ⟨fs_5, a_6, q1, q2, h⟩ := h
    refine z_get C hR q1 rfl (ci := 3) rfl in_X3 24 (by decide) q1661 (fun _ h => h) q2 dX3_takenBack_15 ?_
    refine lv_iload_n C.x C.b dX3_takenBack_18 rfl (lv_at hl 1 rfl) ?_
    obtain ⟨n_7, f_8, q1, q2, h⟩ := h
    refine z_iald C hR q1 (by decide) q2 dX3_takenBack_19 ?_
    have h := h _ rfl
    generalize f_8 x1.toNatClampNeg = v_9 at h ⊢
    refine lv_goto (tgt := 24) C.x C.b dX3_takenBack_20 (by decide) ?_
    exact z_iret C hQ dX3_takenBack_24 h H locs ls hR hS hl
set_option maxHeartbeats 4000000 in
theorem mX3_greater {X : zX} {d : Nat} {g : zG} {K : Option Value → zG → Prop} {KX : String → zG → Prop} (hok : zOk X) (x0 : Int32) (x1 : Int32) (h : (x0 = (-1) → K (some (.int (-1))) g) ∧ (¬ x0 = (-1) → (¬ x1 = (-1) → (x0 ≤ x1 → K (some (.int x1)) g) ∧ (¬ x0 ≤ x1 → K (some (.int x0)) g)) ∧ (x1 = (-1) → K (some (.int (-1))) g))) : zCal X d yX3_greater wX3_greater [.int x0, .int x1] g K KX := by
  refine z_enter hok pn_X3 (Nat.le_of_ble_eq_true rfl) (fun E C hQ => ?_)
  have C : zC X d E RX3 cX3_greater 2 (some .int) "greater" := C
  show GW X E 2 g 0 [(0, .int x0), (1, .int x1)] []
  intro H locs ls hR hS hl
  refine lv_iload_n C.x C.b dX3_greater_0 rfl (lv_at hl 0 rfl) ?_
  refine lv_iconst (v := (-1)) C.x C.b dX3_greater_1 (by decide) ?_
  obtain ⟨h1, h2⟩ := h
  refine lv_icmp_eq (tgt := 10) C.x C.b dX3_greater_2 (by decide) (fun c => ?_) (fun c => ?_)
  · have h := h1 c; clear h1 h2
    refine lv_iconst (v := (-1)) C.x C.b dX3_greater_10 (by decide) ?_
    refine lv_goto (tgt := 24) C.x C.b dX3_greater_11 (by decide) ?_
    exact z_iret C hQ dX3_greater_24 h H locs ls hR hS hl
  · have h := h2 c; clear h1 h2
    refine lv_iload_n C.x C.b dX3_greater_5 rfl (lv_at hl 1 rfl) ?_
    refine lv_iconst (v := (-1)) C.x C.b dX3_greater_6 (by decide) ?_
    obtain ⟨h1, h2⟩ := h
    refine lv_icmp_ne (tgt := 14) C.x C.b dX3_greater_7 (by decide) (fun c => ?_) (fun c => ?_)
    · have h := h1 c; clear h1 h2
      refine lv_iload_n C.x C.b dX3_greater_14 rfl (lv_at hl 0 rfl) ?_
      refine lv_iload_n C.x C.b dX3_greater_15 rfl (lv_at hl 1 rfl) ?_
      obtain ⟨h1, h2⟩ := h
      refine lv_icmp_le (tgt := 23) C.x C.b dX3_greater_16 (by decide) (fun c => ?_) (fun c => ?_)
      · have h := h1 c; clear h1 h2
        refine lv_iload_n C.x C.b dX3_greater_23 rfl (lv_at hl 1 rfl) ?_
        exact z_iret C hQ dX3_greater_24 h H locs ls hR hS hl
      · have h := h2 c; clear h1 h2
        refine lv_iload_n C.x C.b dX3_greater_19 rfl (lv_at hl 0 rfl) ?_
        refine lv_goto (tgt := 24) C.x C.b dX3_greater_20 (by decide) ?_
        exact z_iret C hQ dX3_greater_24 h H locs ls hR hS hl
    · have h := h2 c; clear h1 h2
      refine lv_iconst (v := (-1)) C.x C.b dX3_greater_10 (by decide) ?_
      refine lv_goto (tgt := 24) C.x C.b dX3_greater_11 (by decide) ?_
      exact z_iret C hQ dX3_greater_24 h H locs ls hR hS hl
set_option maxHeartbeats 4000000 in
theorem mX3_together {X : zX} {d : Nat} {g : zG} {K : Option Value → zG → Prop} {KX : String → zG → Prop} (hok : zOk X) (x0 : Int32) (x1 : Int32) (h : (x0 = (-1) → K (some (.int (-1))) g) ∧ (¬ x0 = (-1) → (¬ x1 = (-1) → K (some (.int (x0 + x1))) g) ∧ (x1 = (-1) → K (some (.int (-1))) g))) : zCal X d yX3_together wX3_together [.int x0, .int x1] g K KX := by
  refine z_enter hok pn_X3 (Nat.le_of_ble_eq_true rfl) (fun E C hQ => ?_)
  have C : zC X d E RX3 cX3_together 2 (some .int) "together" := C
  show GW X E 2 g 0 [(0, .int x0), (1, .int x1)] []
  intro H locs ls hR hS hl
  refine lv_iload_n C.x C.b dX3_together_0 rfl (lv_at hl 0 rfl) ?_
  refine lv_iconst (v := (-1)) C.x C.b dX3_together_1 (by decide) ?_
  obtain ⟨h1, h2⟩ := h
  refine lv_icmp_eq (tgt := 10) C.x C.b dX3_together_2 (by decide) (fun c => ?_) (fun c => ?_)
  · have h := h1 c; clear h1 h2
    refine lv_iconst (v := (-1)) C.x C.b dX3_together_10 (by decide) ?_
    refine lv_goto (tgt := 17) C.x C.b dX3_together_11 (by decide) ?_
    exact z_iret C hQ dX3_together_17 h H locs ls hR hS hl
  · have h := h2 c; clear h1 h2
    refine lv_iload_n C.x C.b dX3_together_5 rfl (lv_at hl 1 rfl) ?_
    refine lv_iconst (v := (-1)) C.x C.b dX3_together_6 (by decide) ?_
    obtain ⟨h1, h2⟩ := h
    refine lv_icmp_ne (tgt := 14) C.x C.b dX3_together_7 (by decide) (fun c => ?_) (fun c => ?_)
    · have h := h1 c; clear h1 h2
      refine lv_iload_n C.x C.b dX3_together_14 rfl (lv_at hl 0 rfl) ?_
      refine lv_iload_n C.x C.b dX3_together_15 rfl (lv_at hl 1 rfl) ?_
      refine lv_iadd C.x C.b dX3_together_16 ?_
      exact z_iret C hQ dX3_together_17 h H locs ls hR hS hl
    · have h := h2 c; clear h1 h2
      refine lv_iconst (v := (-1)) C.x C.b dX3_together_10 (by decide) ?_
      refine lv_goto (tgt := 17) C.x C.b dX3_together_11 (by decide) ?_
      exact z_iret C hQ dX3_together_17 h H locs ls hR hS hl
theorem hdS_X3_together : yX3_together.cls ≠ "java/lang/invoke/MethodHandle" ∧ yX3_together.cls ≠ "java/lang/invoke/VarHandle" ∧ (parseMethodDescriptor yX3_together.desc).map (fun d => d.parameters.length) = some 2 := by decide +kernel
set_option maxHeartbeats 4000000 in
theorem mX3_looks {X : zX} {d : Nat} {g : zG} {K : Option Value → zG → Prop} {KX : String → zG → Prop} (hok : zOk X) (a0 : Nat) (x1 : Int32) (x2 : Int32) (x3 : Int32) (h : ∃ (fs_1 : List Value) (a_2 : Nat), zGo g 3 a0 = some fs_1 ∧ fs_1[16]? = some (.ref a_2) ∧ ∃ (n_3 : Nat) (f_4 : Nat → Int32), zGi g 16 a_2 = some (n_3, f_4) ∧ vp_in x1 n_3 ∧ ∀ v_5 : Int32, v_5 = f_4 x1.toNatClampNeg → (v_5 = 5 → (x3 = 0 → K (some (.int x2)) g) ∧ (¬ x3 = 0 → K (some (.int (-1))) g)) ∧ (v_5 = 6 → (x3 = 0 → K (some (.int x2)) g) ∧ (¬ x3 = 0 → ∃ (fs_6 : List Value) (a_7 : Nat), zGo g 3 a0 = some fs_6 ∧ fs_6[18]? = some (.ref a_7) ∧ ∃ (n_8 : Nat) (f_9 : Nat → Int32), zGi g 18 a_7 = some (n_8, f_9) ∧ vp_in x1 n_8 ∧ ∀ v_10 : Int32, v_10 = f_9 x1.toNatClampNeg → zCal X d yX3_together wX3_together [.int v_10, .int x2] g (fun r g_11 => ∃ v_12 : Int32, r = some (.int v_12) ∧ K (some (.int v_12)) g_11) KX)) ∧ (v_5 = 7 → (x3 = 0 → K (some (.int x2)) g) ∧ (¬ x3 = 0 → ∃ (fs_13 : List Value) (a_14 : Nat), zGo g 3 a0 = some fs_13 ∧ fs_13[18]? = some (.ref a_14) ∧ ∃ (n_15 : Nat) (f_16 : Nat → Int32), zGi g 18 a_14 = some (n_15, f_16) ∧ vp_in x1 n_15 ∧ ∀ v_17 : Int32, v_17 = f_16 x1.toNatClampNeg → zCal X d yX3_together wX3_together [.int v_17, .int x2] g (fun r g_18 => ∃ v_19 : Int32, r = some (.int v_19) ∧ K (some (.int v_19)) g_18) KX)) ∧ (v_5 = 8 → (x3 = 0 → K (some (.int (-1))) g) ∧ (¬ x3 = 0 → K (some (.int x2)) g)) ∧ (v_5 = 9 → (x3 = 0 → ∃ (fs_20 : List Value) (a_21 : Nat), zGo g 3 a0 = some fs_20 ∧ fs_20[18]? = some (.ref a_21) ∧ ∃ (n_22 : Nat) (f_23 : Nat → Int32), zGi g 18 a_21 = some (n_22, f_23) ∧ vp_in x1 n_22 ∧ ∀ v_24 : Int32, v_24 = f_23 x1.toNatClampNeg → zCal X d yX3_together wX3_together [.int v_24, .int x2] g (fun r g_25 => ∃ v_26 : Int32, r = some (.int v_26) ∧ K (some (.int v_26)) g_25) KX) ∧ (¬ x3 = 0 → K (some (.int x2)) g)) ∧ (v_5 = 10 → (x3 = 0 → ∃ (fs_27 : List Value) (a_28 : Nat), zGo g 3 a0 = some fs_27 ∧ fs_27[18]? = some (.ref a_28) ∧ ∃ (n_29 : Nat) (f_30 : Nat → Int32), zGi g 18 a_28 = some (n_29, f_30) ∧ vp_in x1 n_29 ∧ ∀ v_31 : Int32, v_31 = f_30 x1.toNatClampNeg → zCal X d yX3_together wX3_together [.int v_31, .int x2] g (fun r g_32 => ∃ v_33 : Int32, r = some (.int v_33) ∧ K (some (.int v_33)) g_32) KX) ∧ (¬ x3 = 0 → K (some (.int x2)) g)) ∧ (v_5 = 11 → (x3 = 0 → K (some (.int x2)) g) ∧ (¬ x3 = 0 → ∃ (fs_34 : List Value) (a_35 : Nat), zGo g 3 a0 = some fs_34 ∧ fs_34[18]? = some (.ref a_35) ∧ ∃ (n_36 : Nat) (f_37 : Nat → Int32), zGi g 18 a_35 = some (n_36, f_37) ∧ vp_in x1 n_36 ∧ ∀ v_38 : Int32, v_38 = f_37 x1.toNatClampNeg → zCal X d yX3_together wX3_together [.int v_38, .int x2] g (fun r g_39 => ∃ v_40 : Int32, r = some (.int v_40) ∧ K (some (.int v_40)) g_39) KX)) ∧ (v_5.toInt < 5 ∨ 11 < v_5.toInt → K (some (.int x2)) g)) : zCal X (d + 1) yX3_looks wX3_looks [.ref a0, .int x1, .int x2, .int x3] g K KX := by
  refine z_enter hok pn_X3 (Nat.le_of_ble_eq_true rfl) (fun E C hQ => ?_)
  have C : zC X (d + 1) E RX3 cX3_looks 4 (some .int) "looks" := C
  show GW X E 4 g 0 [(0, .ref a0), (1, .int x1), (2, .int x2), (3, .int x3)] []
  intro H locs ls hR hS hl
  refine lv_aload_n C.x C.b dX3_looks_0 rfl (lv_at hl 0 rfl) ?_
  obtain ⟨fs_1, a_2, q1, q2, h⟩ := h
  refine z_get C hR q1 rfl (ci := 3) rfl in_X3 16 (by decide) q1653 (fun _ h => h) q2 dX3_looks_1 ?_
  refine lv_iload_n C.x C.b dX3_looks_4 rfl (lv_at hl 1 rfl) ?_
  obtain ⟨n_3, f_4, q1, q2, h⟩ := h
  refine z_iald C hR q1 (by decide) q2 dX3_looks_5 ?_
  have h := h _ rfl
  generalize f_4 x1.toNatClampNeg = v_5 at h ⊢
  obtain ⟨h_0, h_1, h_2, h_3, h_4, h_5, h_6, hd_⟩ := h
  rcases zsw_5_11 v_5 with c | c | c | c | c | c | c | c
  · have h := h_0 c; clear h_0 h_1 h_2 h_3 h_4 h_5 h_6 hd_
    refine lv_tableIn (off := 42) (tgt := 48) C.x C.b dX3_looks_6 (by rw [c]; decide) (by rw [c]; decide) (by rw [c]; rfl) (by decide) ?_
    refine lv_iload_n C.x C.b dX3_looks_48 rfl (lv_at hl 3 rfl) ?_
    obtain ⟨h1, h2⟩ := h
    refine lv_if_eq (tgt := 56) C.x C.b dX3_looks_49 (by decide) (fun c => ?_) (fun c => ?_)
    · have h := h1 c; clear h1 h2
      refine lv_iload_n C.x C.b dX3_looks_56 rfl (lv_at hl 2 rfl) ?_
      exact z_iret C hQ dX3_looks_57 h H locs ls hR hS hl
    · have h := h2 c; clear h1 h2
      refine lv_iconst (v := (-1)) C.x C.b dX3_looks_52 (by decide) ?_
      refine lv_goto (tgt := 57) C.x C.b dX3_looks_53 (by decide) ?_
      exact z_iret C hQ dX3_looks_57 h H locs ls hR hS hl
  · have h := h_1 c; clear h_0 h_1 h_2 h_3 h_4 h_5 h_6 hd_
    refine lv_tableIn (off := 62) (tgt := 68) C.x C.b dX3_looks_6 (by rw [c]; decide) (by rw [c]; decide) (by rw [c]; rfl) (by decide) ?_
    refine lv_iload_n C.x C.b dX3_looks_68 rfl (lv_at hl 3 rfl) ?_
    obtain ⟨h1, h2⟩ := h
    refine lv_if_eq (tgt := 85) C.x C.b dX3_looks_69 (by decide) (fun c => ?_) (fun c => ?_)
    · have h := h1 c; clear h1 h2
      refine lv_iload_n C.x C.b dX3_looks_85 rfl (lv_at hl 2 rfl) ?_
      exact z_iret C hQ dX3_looks_86 h H locs ls hR hS hl
    · have h := h2 c; clear h1 h2
      refine lv_aload_n C.x C.b dX3_looks_72 rfl (lv_at hl 0 rfl) ?_
      obtain ⟨fs_6, a_7, q1, q2, h⟩ := h
      refine z_get C hR q1 rfl (ci := 3) rfl in_X3 18 (by decide) q1655 (fun _ h => h) q2 dX3_looks_73 ?_
      refine lv_iload_n C.x C.b dX3_looks_76 rfl (lv_at hl 1 rfl) ?_
      obtain ⟨n_8, f_9, q1, q2, h⟩ := h
      refine z_iald C hR q1 (by decide) q2 dX3_looks_77 ?_
      have h := h _ rfl
      generalize f_9 x1.toNatClampNeg = v_10 at h ⊢
      refine lv_iload_n C.x C.b dX3_looks_78 rfl (lv_at hl 2 rfl) ?_
      refine z_callS C hR hS hl (n := 2) (y := yX3_together) (bytes := cX3_together) (maxL := 2) (rt := (some .int)) (As := [.int v_10, .int x2]) (rest := []) (lw_S q2052 q2053 q82 q2054) hdS_X3_together (by decide) rfl rfl (Nat.le_of_ble_eq_true rfl) dX3_looks_79 h (fun r g_11 hk_ => ?_) (fun x g1 h => z_out C hQ h)
      clear h; obtain ⟨v_12, rfl, h⟩ := hk_
      show GW X E 4 g_11 82 [(0, .ref a0), (1, .int x1), (2, .int x2), (3, .int x3)] [.int v_12]
      intro H locs ls hR hS hl
      refine lv_goto (tgt := 86) C.x C.b dX3_looks_82 (by decide) ?_
      exact z_iret C hQ dX3_looks_86 h H locs ls hR hS hl
  · have h := h_2 c; clear h_0 h_1 h_2 h_3 h_4 h_5 h_6 hd_
    refine lv_tableIn (off := 62) (tgt := 68) C.x C.b dX3_looks_6 (by rw [c]; decide) (by rw [c]; decide) (by rw [c]; rfl) (by decide) ?_
    refine lv_iload_n C.x C.b dX3_looks_68 rfl (lv_at hl 3 rfl) ?_
    obtain ⟨h1, h2⟩ := h
    refine lv_if_eq (tgt := 85) C.x C.b dX3_looks_69 (by decide) (fun c => ?_) (fun c => ?_)
    · have h := h1 c; clear h1 h2
      refine lv_iload_n C.x C.b dX3_looks_85 rfl (lv_at hl 2 rfl) ?_
      exact z_iret C hQ dX3_looks_86 h H locs ls hR hS hl
    · have h := h2 c; clear h1 h2
      refine lv_aload_n C.x C.b dX3_looks_72 rfl (lv_at hl 0 rfl) ?_
      obtain ⟨fs_13, a_14, q1, q2, h⟩ := h
      refine z_get C hR q1 rfl (ci := 3) rfl in_X3 18 (by decide) q1655 (fun _ h => h) q2 dX3_looks_73 ?_
      refine lv_iload_n C.x C.b dX3_looks_76 rfl (lv_at hl 1 rfl) ?_
      obtain ⟨n_15, f_16, q1, q2, h⟩ := h
      refine z_iald C hR q1 (by decide) q2 dX3_looks_77 ?_
      have h := h _ rfl
      generalize f_16 x1.toNatClampNeg = v_17 at h ⊢
      refine lv_iload_n C.x C.b dX3_looks_78 rfl (lv_at hl 2 rfl) ?_
      refine z_callS C hR hS hl (n := 2) (y := yX3_together) (bytes := cX3_together) (maxL := 2) (rt := (some .int)) (As := [.int v_17, .int x2]) (rest := []) (lw_S q2052 q2053 q82 q2054) hdS_X3_together (by decide) rfl rfl (Nat.le_of_ble_eq_true rfl) dX3_looks_79 h (fun r g_18 hk_ => ?_) (fun x g1 h => z_out C hQ h)
      clear h; obtain ⟨v_19, rfl, h⟩ := hk_
      show GW X E 4 g_18 82 [(0, .ref a0), (1, .int x1), (2, .int x2), (3, .int x3)] [.int v_19]
      intro H locs ls hR hS hl
      refine lv_goto (tgt := 86) C.x C.b dX3_looks_82 (by decide) ?_
      exact z_iret C hQ dX3_looks_86 h H locs ls hR hS hl
  · have h := h_3 c; clear h_0 h_1 h_2 h_3 h_4 h_5 h_6 hd_
    refine lv_tableIn (off := 52) (tgt := 58) C.x C.b dX3_looks_6 (by rw [c]; decide) (by rw [c]; decide) (by rw [c]; rfl) (by decide) ?_
    refine lv_iload_n C.x C.b dX3_looks_58 rfl (lv_at hl 3 rfl) ?_
    obtain ⟨h1, h2⟩ := h
    refine lv_if_eq (tgt := 66) C.x C.b dX3_looks_59 (by decide) (fun c => ?_) (fun c => ?_)
    · have h := h1 c; clear h1 h2
      refine lv_iconst (v := (-1)) C.x C.b dX3_looks_66 (by decide) ?_
      exact z_iret C hQ dX3_looks_67 h H locs ls hR hS hl
    · have h := h2 c; clear h1 h2
      refine lv_iload_n C.x C.b dX3_looks_62 rfl (lv_at hl 2 rfl) ?_
      refine lv_goto (tgt := 67) C.x C.b dX3_looks_63 (by decide) ?_
      exact z_iret C hQ dX3_looks_67 h H locs ls hR hS hl
  · have h := h_4 c; clear h_0 h_1 h_2 h_3 h_4 h_5 h_6 hd_
    refine lv_tableIn (off := 81) (tgt := 87) C.x C.b dX3_looks_6 (by rw [c]; decide) (by rw [c]; decide) (by rw [c]; rfl) (by decide) ?_
    refine lv_iload_n C.x C.b dX3_looks_87 rfl (lv_at hl 3 rfl) ?_
    obtain ⟨h1, h2⟩ := h
    refine lv_if_eq (tgt := 95) C.x C.b dX3_looks_88 (by decide) (fun c => ?_) (fun c => ?_)
    · have h := h1 c; clear h1 h2
      refine lv_aload_n C.x C.b dX3_looks_95 rfl (lv_at hl 0 rfl) ?_
      obtain ⟨fs_20, a_21, q1, q2, h⟩ := h
      refine z_get C hR q1 rfl (ci := 3) rfl in_X3 18 (by decide) q1655 (fun _ h => h) q2 dX3_looks_96 ?_
      refine lv_iload_n C.x C.b dX3_looks_99 rfl (lv_at hl 1 rfl) ?_
      obtain ⟨n_22, f_23, q1, q2, h⟩ := h
      refine z_iald C hR q1 (by decide) q2 dX3_looks_100 ?_
      have h := h _ rfl
      generalize f_23 x1.toNatClampNeg = v_24 at h ⊢
      refine lv_iload_n C.x C.b dX3_looks_101 rfl (lv_at hl 2 rfl) ?_
      refine z_callS C hR hS hl (n := 2) (y := yX3_together) (bytes := cX3_together) (maxL := 2) (rt := (some .int)) (As := [.int v_24, .int x2]) (rest := []) (lw_S q2052 q2053 q82 q2054) hdS_X3_together (by decide) rfl rfl (Nat.le_of_ble_eq_true rfl) dX3_looks_102 h (fun r g_25 hk_ => ?_) (fun x g1 h => z_out C hQ h)
      clear h; obtain ⟨v_26, rfl, h⟩ := hk_
      show GW X E 4 g_25 105 [(0, .ref a0), (1, .int x1), (2, .int x2), (3, .int x3)] [.int v_26]
      intro H locs ls hR hS hl
      exact z_iret C hQ dX3_looks_105 h H locs ls hR hS hl
    · have h := h2 c; clear h1 h2
      refine lv_iload_n C.x C.b dX3_looks_91 rfl (lv_at hl 2 rfl) ?_
      refine lv_goto (tgt := 105) C.x C.b dX3_looks_92 (by decide) ?_
      exact z_iret C hQ dX3_looks_105 h H locs ls hR hS hl
  · have h := h_5 c; clear h_0 h_1 h_2 h_3 h_4 h_5 h_6 hd_
    refine lv_tableIn (off := 81) (tgt := 87) C.x C.b dX3_looks_6 (by rw [c]; decide) (by rw [c]; decide) (by rw [c]; rfl) (by decide) ?_
    refine lv_iload_n C.x C.b dX3_looks_87 rfl (lv_at hl 3 rfl) ?_
    obtain ⟨h1, h2⟩ := h
    refine lv_if_eq (tgt := 95) C.x C.b dX3_looks_88 (by decide) (fun c => ?_) (fun c => ?_)
    · have h := h1 c; clear h1 h2
      refine lv_aload_n C.x C.b dX3_looks_95 rfl (lv_at hl 0 rfl) ?_
      obtain ⟨fs_27, a_28, q1, q2, h⟩ := h
      refine z_get C hR q1 rfl (ci := 3) rfl in_X3 18 (by decide) q1655 (fun _ h => h) q2 dX3_looks_96 ?_
      refine lv_iload_n C.x C.b dX3_looks_99 rfl (lv_at hl 1 rfl) ?_
      obtain ⟨n_29, f_30, q1, q2, h⟩ := h
      refine z_iald C hR q1 (by decide) q2 dX3_looks_100 ?_
      have h := h _ rfl
      generalize f_30 x1.toNatClampNeg = v_31 at h ⊢
      refine lv_iload_n C.x C.b dX3_looks_101 rfl (lv_at hl 2 rfl) ?_
      refine z_callS C hR hS hl (n := 2) (y := yX3_together) (bytes := cX3_together) (maxL := 2) (rt := (some .int)) (As := [.int v_31, .int x2]) (rest := []) (lw_S q2052 q2053 q82 q2054) hdS_X3_together (by decide) rfl rfl (Nat.le_of_ble_eq_true rfl) dX3_looks_102 h (fun r g_32 hk_ => ?_) (fun x g1 h => z_out C hQ h)
      clear h; obtain ⟨v_33, rfl, h⟩ := hk_
      show GW X E 4 g_32 105 [(0, .ref a0), (1, .int x1), (2, .int x2), (3, .int x3)] [.int v_33]
      intro H locs ls hR hS hl
      exact z_iret C hQ dX3_looks_105 h H locs ls hR hS hl
    · have h := h2 c; clear h1 h2
      refine lv_iload_n C.x C.b dX3_looks_91 rfl (lv_at hl 2 rfl) ?_
      refine lv_goto (tgt := 105) C.x C.b dX3_looks_92 (by decide) ?_
      exact z_iret C hQ dX3_looks_105 h H locs ls hR hS hl
  · have h := h_6 c; clear h_0 h_1 h_2 h_3 h_4 h_5 h_6 hd_
    refine lv_tableIn (off := 62) (tgt := 68) C.x C.b dX3_looks_6 (by rw [c]; decide) (by rw [c]; decide) (by rw [c]; rfl) (by decide) ?_
    refine lv_iload_n C.x C.b dX3_looks_68 rfl (lv_at hl 3 rfl) ?_
    obtain ⟨h1, h2⟩ := h
    refine lv_if_eq (tgt := 85) C.x C.b dX3_looks_69 (by decide) (fun c => ?_) (fun c => ?_)
    · have h := h1 c; clear h1 h2
      refine lv_iload_n C.x C.b dX3_looks_85 rfl (lv_at hl 2 rfl) ?_
      exact z_iret C hQ dX3_looks_86 h H locs ls hR hS hl
    · have h := h2 c; clear h1 h2
      refine lv_aload_n C.x C.b dX3_looks_72 rfl (lv_at hl 0 rfl) ?_
      obtain ⟨fs_34, a_35, q1, q2, h⟩ := h
      refine z_get C hR q1 rfl (ci := 3) rfl in_X3 18 (by decide) q1655 (fun _ h => h) q2 dX3_looks_73 ?_
      refine lv_iload_n C.x C.b dX3_looks_76 rfl (lv_at hl 1 rfl) ?_
      obtain ⟨n_36, f_37, q1, q2, h⟩ := h
      refine z_iald C hR q1 (by decide) q2 dX3_looks_77 ?_
      have h := h _ rfl
      generalize f_37 x1.toNatClampNeg = v_38 at h ⊢
      refine lv_iload_n C.x C.b dX3_looks_78 rfl (lv_at hl 2 rfl) ?_
      refine z_callS C hR hS hl (n := 2) (y := yX3_together) (bytes := cX3_together) (maxL := 2) (rt := (some .int)) (As := [.int v_38, .int x2]) (rest := []) (lw_S q2052 q2053 q82 q2054) hdS_X3_together (by decide) rfl rfl (Nat.le_of_ble_eq_true rfl) dX3_looks_79 h (fun r g_39 hk_ => ?_) (fun x g1 h => z_out C hQ h)
      clear h; obtain ⟨v_40, rfl, h⟩ := hk_
      show GW X E 4 g_39 82 [(0, .ref a0), (1, .int x1), (2, .int x2), (3, .int x3)] [.int v_40]
      intro H locs ls hR hS hl
      refine lv_goto (tgt := 86) C.x C.b dX3_looks_82 (by decide) ?_
      exact z_iret C hQ dX3_looks_86 h H locs ls hR hS hl
  · have h := hd_ c; clear h_0 h_1 h_2 h_3 h_4 h_5 h_6 hd_
    refine lv_tableOut (tgt := 106) C.x C.b dX3_looks_6 c (by decide) ?_
    refine lv_iload_n C.x C.b dX3_looks_106 rfl (lv_at hl 2 rfl) ?_
    exact z_iret C hQ dX3_looks_107 h H locs ls hR hS hl
theorem hdS_X3_greater : yX3_greater.cls ≠ "java/lang/invoke/MethodHandle" ∧ yX3_greater.cls ≠ "java/lang/invoke/VarHandle" ∧ (parseMethodDescriptor yX3_greater.desc).map (fun d => d.parameters.length) = some 2 := by decide +kernel
theorem hdV_X3_looks : yX3_looks.cls = RX3 ∧ yX3_looks.cls ≠ "java/lang/invoke/MethodHandle" ∧ yX3_looks.cls ≠ "java/lang/invoke/VarHandle" ∧ (parseMethodDescriptor yX3_looks.desc).map (fun d => d.parameters.length) = some 3 := by decide +kernel
set_option maxHeartbeats 4000000 in
theorem bX3_looksAll_8 {X : zX} {d : Nat} {E : zM} {K : Option Value → zG → Prop} {KX : String → zG → Prop} (C : zC X (d + 1) E RX3 cX3_looksAll 7 (some .int) "looksAll") (hQ : zQ X E K KX) (g : zG) (a0 : Nat) (x1 : Int32) (x2 : Int32) (x3 : Int32) (x4 : Int32) (h : ∃ (fs_1 : List Value) (a_2 : Nat), zGo g 3 a0 = some fs_1 ∧ fs_1[23]? = some (.ref a_2) ∧ ∃ (n_3 : Nat) (f_4 : Nat → Int32), zGi g 23 a_2 = some (n_3, f_4) ∧ vp_in x1 n_3 ∧ ∀ v_5 : Int32, v_5 = f_4 x1.toNatClampNeg → (v_5 ≤ x4 → ∃ (fs_6 : List Value) (a_7 : Nat), zGo g 3 a0 = some fs_6 ∧ fs_6[32]? = some (.ref a_7) ∧ ∃ (fs_8 : List Value) (a_9 : Nat), zGo g 3 a0 = some fs_8 ∧ fs_8[23]? = some (.ref a_9) ∧ ∃ (n_10 : Nat) (f_11 : Nat → Int32), zGi g 23 a_9 = some (n_10, f_11) ∧ vp_in x1 n_10 ∧ ∀ v_12 : Int32, v_12 = f_11 x1.toNatClampNeg → ∃ (n_13 : Nat) (f_14 : Nat → Int32), zGi g 32 a_7 = some (n_13, f_14) ∧ vp_in (v_12 - 1) n_13 ∧ ∀ v_15 : Int32, v_15 = f_14 (v_12 - 1).toNatClampNeg → K (some (.int v_15)) g) ∧ (¬ v_5 ≤ x4 → GW X E 7 g 28 [(0, .ref a0), (1, .int x1), (2, .int x2), (3, .int x3), (4, .int x4), (5, .int 0), (6, .int (x4 - 1))] [])) : GW X E 7 g 8 [(0, .ref a0), (1, .int x1), (2, .int x2), (3, .int x3), (4, .int x4)] [] := by
  intro H locs ls hR hS hl
  refine lv_iload C.x C.b dX3_looksAll_8 (lv_at hl 4 rfl) ?_
  refine lv_aload_n C.x C.b dX3_looksAll_10 rfl (lv_at hl 0 rfl) ?_
  obtain ⟨fs_1, a_2, q1, q2, h⟩ := h
  refine z_get C hR q1 rfl (ci := 3) rfl in_X3 23 (by decide) q1660 (fun _ h => h) q2 dX3_looksAll_11 ?_
  refine lv_iload_n C.x C.b dX3_looksAll_14 rfl (lv_at hl 1 rfl) ?_
  obtain ⟨n_3, f_4, q1, q2, h⟩ := h
  refine z_iald C hR q1 (by decide) q2 dX3_looksAll_15 ?_
  have h := h _ rfl
  generalize f_4 x1.toNatClampNeg = v_5 at h ⊢
  obtain ⟨h1, h2⟩ := h
  refine lv_icmp_ge (tgt := 100) C.x C.b dX3_looksAll_16 (by decide) (fun c => ?_) (fun c => ?_)
  · have h := h1 c; clear h1 h2
    refine lv_aload_n C.x C.b dX3_looksAll_100 rfl (lv_at hl 0 rfl) ?_
    obtain ⟨fs_6, a_7, q1, q2, h⟩ := h
    refine z_get C hR q1 rfl (ci := 3) rfl in_X3 32 (by decide) q1669 (fun _ h => h) q2 dX3_looksAll_101 ?_
    refine lv_aload_n C.x C.b dX3_looksAll_104 rfl (lv_at hl 0 rfl) ?_
    obtain ⟨fs_8, a_9, q1, q2, h⟩ := h
    refine z_get C hR q1 rfl (ci := 3) rfl in_X3 23 (by decide) q1660 (fun _ h => h) q2 dX3_looksAll_105 ?_
    refine lv_iload_n C.x C.b dX3_looksAll_108 rfl (lv_at hl 1 rfl) ?_
    obtain ⟨n_10, f_11, q1, q2, h⟩ := h
    refine z_iald C hR q1 (by decide) q2 dX3_looksAll_109 ?_
    have h := h _ rfl
    generalize f_11 x1.toNatClampNeg = v_12 at h ⊢
    refine lv_iconst (v := 1) C.x C.b dX3_looksAll_110 (by decide) ?_
    refine lv_isub C.x C.b dX3_looksAll_111 ?_
    obtain ⟨n_13, f_14, q1, q2, h⟩ := h
    refine z_iald C hR q1 (by decide) q2 dX3_looksAll_112 ?_
    have h := h _ rfl
    generalize f_14 (v_12 - 1).toNatClampNeg = v_15 at h ⊢
    exact z_iret C hQ dX3_looksAll_113 h H locs ls hR hS hl
  · have h := h2 c; clear h1 h2
    refine lv_iconst (v := 0) C.x C.b dX3_looksAll_19 (by decide) ?_
    refine lv_istore (lv' := [(5, .int 0), (0, .ref a0), (1, .int x1), (2, .int x2), (3, .int x3), (4, .int x4)]) C.x C.b dX3_looksAll_20 hl (by decide) rfl (fun ls hl => ?_)
    refine lv_iload C.x C.b dX3_looksAll_22 (lv_at hl 5 rfl) ?_
    refine lv_iconst (v := 1) C.x C.b dX3_looksAll_24 (by decide) ?_
    refine lv_isub C.x C.b dX3_looksAll_25 ?_
    refine lv_istore (lv' := [(6, .int (x4 - 1)), (5, .int 0), (0, .ref a0), (1, .int x1), (2, .int x2), (3, .int x3), (4, .int x4)]) C.x C.b dX3_looksAll_26 hl (by decide) rfl (fun ls hl => ?_)
    exact h H locs ls hR hS (lv_sub hl [2, 3, 4, 5, 6, 1, 0] rfl)
set_option maxHeartbeats 4000000 in
theorem bX3_looksAll_28 {X : zX} {d : Nat} {E : zM} {K : Option Value → zG → Prop} {KX : String → zG → Prop} (C : zC X (d + 1) E RX3 cX3_looksAll 7 (some .int) "looksAll") (hQ : zQ X E K KX) (g : zG) (a0 : Nat) (x1 : Int32) (x2 : Int32) (x3 : Int32) (x4 : Int32) (x5 : Int32) (x6 : Int32) (h : ∃ (fs_1 : List Value) (a_2 : Nat), zGo g 3 a0 = some fs_1 ∧ fs_1[19]? = some (.ref a_2) ∧ ∃ (n_3 : Nat) (f_4 : Nat → Int32), zGi g 19 a_2 = some (n_3, f_4) ∧ vp_in (x3 + x4) n_3 ∧ ∀ v_5 : Int32, v_5 = f_4 (x3 + x4).toNatClampNeg → (x6 ≤ (x4 - v_5) → ∃ (fs_6 : List Value) (a_7 : Nat), zGo g 3 a0 = some fs_6 ∧ fs_6[32]? = some (.ref a_7) ∧ zIs g 3 a0 ∧ zCal X d yX3_looks wX3_looks [.ref a0, .int (x3 + x4), .int x5, .int x2] g (fun r g_8 => ∃ v_9 : Int32, r = some (.int v_9) ∧ ∃ (n_10 : Nat) (f_11 : Nat → Int32), zGi g_8 32 a_7 = some (n_10, f_11) ∧ vp_in x4 n_10 ∧ ∀ g_12 : zG, g_12 = zSi g_8 32 a_7 n_10 (upd f_11 x4.toNatClampNeg v_9) → GW X E 7 g_12 8 [(0, .ref a0), (1, .int x1), (2, .int x2), (3, .int x3), (4, .int (x4 + 1))] []) KX) ∧ (¬ x6 ≤ (x4 - v_5) → ∃ (fs_13 : List Value) (a_14 : Nat), zGo g 3 a0 = some fs_13 ∧ fs_13[32]? = some (.ref a_14) ∧ ∃ (n_15 : Nat) (f_16 : Nat → Int32), zGi g 32 a_14 = some (n_15, f_16) ∧ vp_in x6 n_15 ∧ ∀ v_17 : Int32, v_17 = f_16 x6.toNatClampNeg → zCal X d yX3_greater wX3_greater [.int x5, .int v_17] g (fun r g_18 => ∃ v_19 : Int32, r = some (.int v_19) ∧ ∃ (fs_20 : List Value) (a_21 : Nat), zGo g_18 3 a0 = some fs_20 ∧ fs_20[19]? = some (.ref a_21) ∧ ∃ (n_22 : Nat) (f_23 : Nat → Int32), zGi g_18 19 a_21 = some (n_22, f_23) ∧ vp_in (x3 + x6) n_22 ∧ ∀ v_24 : Int32, v_24 = f_23 (x3 + x6).toNatClampNeg → GW X E 7 g_18 28 [(0, .ref a0), (1, .int x1), (2, .int x2), (3, .int x3), (4, .int x4), (5, .int v_19), (6, .int (x6 - v_24))] []) KX)) : GW X E 7 g 28 [(0, .ref a0), (1, .int x1), (2, .int x2), (3, .int x3), (4, .int x4), (5, .int x5), (6, .int x6)] [] := by
  intro H locs ls hR hS hl
  refine lv_iload C.x C.b dX3_looksAll_28 (lv_at hl 6 rfl) ?_
  refine lv_iload C.x C.b dX3_looksAll_30 (lv_at hl 4 rfl) ?_
  refine lv_aload_n C.x C.b dX3_looksAll_32 rfl (lv_at hl 0 rfl) ?_
  obtain ⟨fs_1, a_2, q1, q2, h⟩ := h
  refine z_get C hR q1 rfl (ci := 3) rfl in_X3 19 (by decide) q1656 (fun _ h => h) q2 dX3_looksAll_33 ?_
  refine lv_iload_n C.x C.b dX3_looksAll_36 rfl (lv_at hl 3 rfl) ?_
  refine lv_iload C.x C.b dX3_looksAll_37 (lv_at hl 4 rfl) ?_
  refine lv_iadd C.x C.b dX3_looksAll_39 ?_
  obtain ⟨n_3, f_4, q1, q2, h⟩ := h
  refine z_iald C hR q1 (by decide) q2 dX3_looksAll_40 ?_
  have h := h _ rfl
  generalize f_4 (x3 + x4).toNatClampNeg = v_5 at h ⊢
  refine lv_isub C.x C.b dX3_looksAll_41 ?_
  obtain ⟨h1, h2⟩ := h
  refine lv_icmp_le (tgt := 76) C.x C.b dX3_looksAll_42 (by decide) (fun c => ?_) (fun c => ?_)
  · have h := h1 c; clear h1 h2
    refine lv_aload_n C.x C.b dX3_looksAll_76 rfl (lv_at hl 0 rfl) ?_
    obtain ⟨fs_6, a_7, q1, q2, h⟩ := h
    refine z_get C hR q1 rfl (ci := 3) rfl in_X3 32 (by decide) q1669 (fun _ h => h) q2 dX3_looksAll_77 ?_
    refine lv_iload C.x C.b dX3_looksAll_80 (lv_at hl 4 rfl) ?_
    refine lv_aload_n C.x C.b dX3_looksAll_82 rfl (lv_at hl 0 rfl) ?_
    refine lv_iload_n C.x C.b dX3_looksAll_83 rfl (lv_at hl 3 rfl) ?_
    refine lv_iload C.x C.b dX3_looksAll_84 (lv_at hl 4 rfl) ?_
    refine lv_iadd C.x C.b dX3_looksAll_86 ?_
    refine lv_iload C.x C.b dX3_looksAll_87 (lv_at hl 5 rfl) ?_
    refine lv_iload_n C.x C.b dX3_looksAll_89 rfl (lv_at hl 2 rfl) ?_
    refine z_callV C hR hS hl (n := 3) (C1 := RX3) (T := TX3) (N := 35) (ci := 3) (y := yX3_looks) (bytes := cX3_looks) (maxL := 4) (rt := (some .int)) (As := [.int (x3 + x4), .int x5, .int x2]) (rest := [.int x4, .ref a_7]) h.1 rfl (lw_V q2048 q2050 qs61 q82 q2051) hdV_X3_looks (by decide) rfl rfl (Nat.le_of_ble_eq_true rfl) dX3_looksAll_90 h.2 (fun r g_8 hk_ => ?_) (fun x g1 h => z_out C hQ h)
    clear h; obtain ⟨v_9, rfl, h⟩ := hk_
    show GW X E 7 g_8 93 [(0, .ref a0), (1, .int x1), (2, .int x2), (3, .int x3), (4, .int x4), (5, .int x5), (6, .int x6)] [.int v_9, .int x4, .ref a_7]
    intro H locs ls hR hS hl
    obtain ⟨n_10, f_11, q1, q2, h⟩ := h
    refine z_iast C hR hS q1 (by decide) q2 dX3_looksAll_93 (fun H locs hR hS => ?_)
    have h := h _ rfl
    generalize zSi g_8 32 a_7 n_10 (upd f_11 x4.toNatClampNeg v_9) = g_12 at h hR
    refine lv_iinc (v := x4 + 1) (lv' := [(4, .int (x4 + 1)), (0, .ref a0), (1, .int x1), (2, .int x2), (3, .int x3), (5, .int x5), (6, .int x6)]) C.x C.b dX3_looksAll_94 hl (k := 4) rfl rfl (by decide) rfl (fun ls hl => ?_)
    refine lv_goto (tgt := 8) C.x C.b dX3_looksAll_97 (by decide) ?_
    exact h H locs ls hR hS (lv_sub hl [1, 2, 3, 4, 0] rfl)
  · have h := h2 c; clear h1 h2
    refine lv_iload C.x C.b dX3_looksAll_45 (lv_at hl 5 rfl) ?_
    refine lv_aload_n C.x C.b dX3_looksAll_47 rfl (lv_at hl 0 rfl) ?_
    obtain ⟨fs_13, a_14, q1, q2, h⟩ := h
    refine z_get C hR q1 rfl (ci := 3) rfl in_X3 32 (by decide) q1669 (fun _ h => h) q2 dX3_looksAll_48 ?_
    refine lv_iload C.x C.b dX3_looksAll_51 (lv_at hl 6 rfl) ?_
    obtain ⟨n_15, f_16, q1, q2, h⟩ := h
    refine z_iald C hR q1 (by decide) q2 dX3_looksAll_53 ?_
    have h := h _ rfl
    generalize f_16 x6.toNatClampNeg = v_17 at h ⊢
    refine z_callS C hR hS hl (n := 2) (y := yX3_greater) (bytes := cX3_greater) (maxL := 2) (rt := (some .int)) (As := [.int x5, .int v_17]) (rest := []) (lw_S q2045 q2046 q82 q2047) hdS_X3_greater (by decide) rfl rfl (Nat.le_of_ble_eq_true rfl) dX3_looksAll_54 h (fun r g_18 hk_ => ?_) (fun x g1 h => z_out C hQ h)
    clear h; obtain ⟨v_19, rfl, h⟩ := hk_
    show GW X E 7 g_18 57 [(0, .ref a0), (1, .int x1), (2, .int x2), (3, .int x3), (4, .int x4), (5, .int x5), (6, .int x6)] [.int v_19]
    intro H locs ls hR hS hl
    refine lv_istore (lv' := [(5, .int v_19), (0, .ref a0), (1, .int x1), (2, .int x2), (3, .int x3), (4, .int x4), (6, .int x6)]) C.x C.b dX3_looksAll_57 hl (by decide) rfl (fun ls hl => ?_)
    refine lv_iload C.x C.b dX3_looksAll_59 (lv_at hl 6 rfl) ?_
    refine lv_aload_n C.x C.b dX3_looksAll_61 rfl (lv_at hl 1 rfl) ?_
    obtain ⟨fs_20, a_21, q1, q2, h⟩ := h
    refine z_get C hR q1 rfl (ci := 3) rfl in_X3 19 (by decide) q1656 (fun _ h => h) q2 dX3_looksAll_62 ?_
    refine lv_iload_n C.x C.b dX3_looksAll_65 rfl (lv_at hl 4 rfl) ?_
    refine lv_iload C.x C.b dX3_looksAll_66 (lv_at hl 6 rfl) ?_
    refine lv_iadd C.x C.b dX3_looksAll_68 ?_
    obtain ⟨n_22, f_23, q1, q2, h⟩ := h
    refine z_iald C hR q1 (by decide) q2 dX3_looksAll_69 ?_
    have h := h _ rfl
    generalize f_23 (x3 + x6).toNatClampNeg = v_24 at h ⊢
    refine lv_isub C.x C.b dX3_looksAll_70 ?_
    refine lv_istore (lv' := [(6, .int (x6 - v_24)), (5, .int v_19), (0, .ref a0), (1, .int x1), (2, .int x2), (3, .int x3), (4, .int x4)]) C.x C.b dX3_looksAll_71 hl (by decide) rfl (fun ls hl => ?_)
    refine lv_goto (tgt := 28) C.x C.b dX3_looksAll_73 (by decide) ?_
    exact h H locs ls hR hS (lv_sub hl [2, 3, 4, 5, 6, 1, 0] rfl)
set_option maxHeartbeats 4000000 in
theorem mX3_looksAll {X : zX} {d : Nat} {g : zG} {K : Option Value → zG → Prop} {KX : String → zG → Prop} (hok : zOk X) (a0 : Nat) (x1 : Int32) (x2 : Int32) (h : ∀ E : zM, zC X (d + 1) E RX3 cX3_looksAll 7 (some .int) "looksAll" → zQ X E K KX → zCal X d yX3_fromOf wX3_fromOf [.int x1] g (fun r g_1 => ∃ v_2 : Int32, r = some (.int v_2) ∧ GW X E 7 g_1 8 [(0, .ref a0), (1, .int x1), (2, .int x2), (3, .int v_2), (4, .int 0)] []) KX) : zCal X (d + 1) yX3_looksAll wX3_looksAll [.ref a0, .int x1, .int x2] g K KX := by
  refine z_enter hok pn_X3 (Nat.le_of_ble_eq_true rfl) (fun E C hQ => ?_)
  have C : zC X (d + 1) E RX3 cX3_looksAll 7 (some .int) "looksAll" := C
  have h := h E C hQ
  show GW X E 7 g 0 [(0, .ref a0), (1, .int x1), (2, .int x2)] []
  intro H locs ls hR hS hl
  refine lv_iload_n C.x C.b dX3_looksAll_0 rfl (lv_at hl 1 rfl) ?_
  refine z_callS C hR hS hl (n := 1) (y := yX3_fromOf) (bytes := cX3_fromOf) (maxL := 1) (rt := (some .int)) (As := [.int x1]) (rest := []) (lw_S q1805 q1806 q82 q1807) hdS_X3_fromOf (by decide) rfl rfl (Nat.le_of_ble_eq_true rfl) dX3_looksAll_1 h (fun r g_1 hk_ => ?_) (fun x g1 h => z_out C hQ h)
  clear h; obtain ⟨v_2, rfl, h⟩ := hk_
  show GW X E 7 g_1 4 [(0, .ref a0), (1, .int x1), (2, .int x2)] [.int v_2]
  intro H locs ls hR hS hl
  refine lv_istore_n (lv' := [(3, .int v_2), (0, .ref a0), (1, .int x1), (2, .int x2)]) C.x C.b dX3_looksAll_4 rfl hl (by decide) rfl (fun ls hl => ?_)
  refine lv_iconst (v := 0) C.x C.b dX3_looksAll_5 (by decide) ?_
  refine lv_istore (lv' := [(4, .int 0), (3, .int v_2), (0, .ref a0), (1, .int x1), (2, .int x2)]) C.x C.b dX3_looksAll_6 hl (by decide) rfl (fun ls hl => ?_)
  exact h H locs ls hR hS (lv_sub hl [2, 3, 4, 1, 0] rfl)
theorem hdV_X3_looksAll : yX3_looksAll.cls = RX3 ∧ yX3_looksAll.cls ≠ "java/lang/invoke/MethodHandle" ∧ yX3_looksAll.cls ≠ "java/lang/invoke/VarHandle" ∧ (parseMethodDescriptor yX3_looksAll.desc).map (fun d => d.parameters.length) = some 2 := by decide +kernel
set_option maxHeartbeats 4000000 in
theorem mX3_back {X : zX} {d : Nat} {g : zG} {K : Option Value → zG → Prop} {KX : String → zG → Prop} (hok : zOk X) (a0 : Nat) (x1 : Int32) (h : zIs g 3 a0 ∧ zCal X d yX3_isMonitor wX3_isMonitor [.ref a0, .int x1] g (fun r g_1 => ∃ v_2 : Int32, r = some (.int v_2) ∧ zbo v_2 ∧ zIs g_1 3 a0 ∧ zCal X d yX3_goes wX3_goes [.ref a0, .int v_2, .int 1, .int 1] g_1 (fun r g_3 => ∃ v_4 : Int32, r = some (.int v_4) ∧ zbo v_4 ∧ (v_4 = 0 → K (some (.int 0)) g_3) ∧ (¬ v_4 = 0 → zIs g_3 3 a0 ∧ zCal X d yX3_looksAll wX3_looksAll [.ref a0, .int x1, .int 1] g_3 (fun r g_5 => ∃ v_6 : Int32, r = some (.int v_6) ∧ K (some (.int v_6)) g_5) KX)) KX) KX) : zCal X (d + 1) yX3_back wX3_back [.ref a0, .int x1] g K KX := by
  refine z_enter hok pn_X3 (Nat.le_of_ble_eq_true rfl) (fun E C hQ => ?_)
  have C : zC X (d + 1) E RX3 cX3_back 2 (some .int) "back" := C
  show GW X E 2 g 0 [(0, .ref a0), (1, .int x1)] []
  intro H locs ls hR hS hl
  refine lv_aload_n C.x C.b dX3_back_0 rfl (lv_at hl 0 rfl) ?_
  refine lv_aload_n C.x C.b dX3_back_1 rfl (lv_at hl 0 rfl) ?_
  refine lv_iload_n C.x C.b dX3_back_2 rfl (lv_at hl 1 rfl) ?_
  refine z_callV C hR hS hl (n := 1) (C1 := RX3) (T := TX3) (N := 35) (ci := 3) (y := yX3_isMonitor) (bytes := cX3_isMonitor) (maxL := 2) (rt := (some .boolean)) (As := [.int x1]) (rest := [.ref a0]) h.1 rfl (lw_V q2013 q2015 qs59 q82 q2016) hdV_X3_isMonitor (by decide) rfl rfl (Nat.le_of_ble_eq_true rfl) dX3_back_3 h.2 (fun r g_1 hk_ => ?_) (fun x g1 h => z_out C hQ h)
  clear h; obtain ⟨v_2, rfl, zb_, h⟩ := hk_
  show GW X E 2 g_1 6 [(0, .ref a0), (1, .int x1)] [.int v_2, .ref a0]
  intro H locs ls hR hS hl
  refine lv_iconst (v := 1) C.x C.b dX3_back_6 (by decide) ?_
  refine lv_iconst (v := 1) C.x C.b dX3_back_7 (by decide) ?_
  refine z_callV C hR hS hl (n := 3) (C1 := RX3) (T := TX3) (N := 35) (ci := 3) (y := yX3_goes) (bytes := cX3_goes) (maxL := 4) (rt := (some .boolean)) (As := [.int v_2, .int 1, .int 1]) (rest := []) h.1 rfl (lw_V q1758 q1760 qs28 q82 q1761) hdV_X3_goes (by decide) rfl rfl (Nat.le_of_ble_eq_true rfl) dX3_back_8 h.2 (fun r g_3 hk_ => ?_) (fun x g1 h => z_out C hQ h)
  clear h; obtain ⟨v_4, rfl, zb_, h⟩ := hk_
  show GW X E 2 g_3 11 [(0, .ref a0), (1, .int x1)] [.int v_4]
  intro H locs ls hR hS hl
  obtain ⟨h1, h2⟩ := h
  refine lv_if_eq (tgt := 23) C.x C.b dX3_back_11 (by decide) (fun c => ?_) (fun c => ?_)
  · have h := h1 c; clear h1 h2
    refine lv_iconst (v := 0) C.x C.b dX3_back_23 (by decide) ?_
    exact z_iret C hQ dX3_back_24 h H locs ls hR hS hl
  · have h := h2 c; clear h1 h2
    refine lv_aload_n C.x C.b dX3_back_14 rfl (lv_at hl 0 rfl) ?_
    refine lv_iload_n C.x C.b dX3_back_15 rfl (lv_at hl 1 rfl) ?_
    refine lv_iconst (v := 1) C.x C.b dX3_back_16 (by decide) ?_
    refine z_callV C hR hS hl (n := 2) (C1 := RX3) (T := TX3) (N := 35) (ci := 3) (y := yX3_looksAll) (bytes := cX3_looksAll) (maxL := 7) (rt := (some .int)) (As := [.int x1, .int 1]) (rest := []) h.1 rfl (lw_V q2041 q2043 qs60 q82 q2044) hdV_X3_looksAll (by decide) rfl rfl (Nat.le_of_ble_eq_true rfl) dX3_back_17 h.2 (fun r g_5 hk_ => ?_) (fun x g1 h => z_out C hQ h)
    clear h; obtain ⟨v_6, rfl, h⟩ := hk_
    show GW X E 2 g_5 20 [(0, .ref a0), (1, .int x1)] [.int v_6]
    intro H locs ls hR hS hl
    refine lv_goto (tgt := 24) C.x C.b dX3_back_20 (by decide) ?_
    exact z_iret C hQ dX3_back_24 h H locs ls hR hS hl
set_option maxHeartbeats 4000000 in
theorem mX3_ahead {X : zX} {d : Nat} {g : zG} {K : Option Value → zG → Prop} {KX : String → zG → Prop} (hok : zOk X) (a0 : Nat) (x1 : Int32) (h : zIs g 3 a0 ∧ zCal X d yX3_isMonitor wX3_isMonitor [.ref a0, .int x1] g (fun r g_1 => ∃ v_2 : Int32, r = some (.int v_2) ∧ zbo v_2 ∧ zIs g_1 3 a0 ∧ zCal X d yX3_goes wX3_goes [.ref a0, .int v_2, .int 1, .int 1] g_1 (fun r g_3 => ∃ v_4 : Int32, r = some (.int v_4) ∧ zbo v_4 ∧ (v_4 = 0 → K (some (.int 0)) g_3) ∧ (¬ v_4 = 0 → zIs g_3 3 a0 ∧ zCal X d yX3_looksAll wX3_looksAll [.ref a0, .int x1, .int 0] g_3 (fun r g_5 => ∃ v_6 : Int32, r = some (.int v_6) ∧ K (some (.int v_6)) g_5) KX)) KX) KX) : zCal X (d + 1) yX3_ahead wX3_ahead [.ref a0, .int x1] g K KX := by
  refine z_enter hok pn_X3 (Nat.le_of_ble_eq_true rfl) (fun E C hQ => ?_)
  have C : zC X (d + 1) E RX3 cX3_ahead 2 (some .int) "ahead" := C
  show GW X E 2 g 0 [(0, .ref a0), (1, .int x1)] []
  intro H locs ls hR hS hl
  refine lv_aload_n C.x C.b dX3_ahead_0 rfl (lv_at hl 0 rfl) ?_
  refine lv_aload_n C.x C.b dX3_ahead_1 rfl (lv_at hl 0 rfl) ?_
  refine lv_iload_n C.x C.b dX3_ahead_2 rfl (lv_at hl 1 rfl) ?_
  refine z_callV C hR hS hl (n := 1) (C1 := RX3) (T := TX3) (N := 35) (ci := 3) (y := yX3_isMonitor) (bytes := cX3_isMonitor) (maxL := 2) (rt := (some .boolean)) (As := [.int x1]) (rest := [.ref a0]) h.1 rfl (lw_V q2013 q2015 qs59 q82 q2016) hdV_X3_isMonitor (by decide) rfl rfl (Nat.le_of_ble_eq_true rfl) dX3_ahead_3 h.2 (fun r g_1 hk_ => ?_) (fun x g1 h => z_out C hQ h)
  clear h; obtain ⟨v_2, rfl, zb_, h⟩ := hk_
  show GW X E 2 g_1 6 [(0, .ref a0), (1, .int x1)] [.int v_2, .ref a0]
  intro H locs ls hR hS hl
  refine lv_iconst (v := 1) C.x C.b dX3_ahead_6 (by decide) ?_
  refine lv_iconst (v := 1) C.x C.b dX3_ahead_7 (by decide) ?_
  refine z_callV C hR hS hl (n := 3) (C1 := RX3) (T := TX3) (N := 35) (ci := 3) (y := yX3_goes) (bytes := cX3_goes) (maxL := 4) (rt := (some .boolean)) (As := [.int v_2, .int 1, .int 1]) (rest := []) h.1 rfl (lw_V q1758 q1760 qs28 q82 q1761) hdV_X3_goes (by decide) rfl rfl (Nat.le_of_ble_eq_true rfl) dX3_ahead_8 h.2 (fun r g_3 hk_ => ?_) (fun x g1 h => z_out C hQ h)
  clear h; obtain ⟨v_4, rfl, zb_, h⟩ := hk_
  show GW X E 2 g_3 11 [(0, .ref a0), (1, .int x1)] [.int v_4]
  intro H locs ls hR hS hl
  obtain ⟨h1, h2⟩ := h
  refine lv_if_eq (tgt := 23) C.x C.b dX3_ahead_11 (by decide) (fun c => ?_) (fun c => ?_)
  · have h := h1 c; clear h1 h2
    refine lv_iconst (v := 0) C.x C.b dX3_ahead_23 (by decide) ?_
    exact z_iret C hQ dX3_ahead_24 h H locs ls hR hS hl
  · have h := h2 c; clear h1 h2
    refine lv_aload_n C.x C.b dX3_ahead_14 rfl (lv_at hl 0 rfl) ?_
    refine lv_iload_n C.x C.b dX3_ahead_15 rfl (lv_at hl 1 rfl) ?_
    refine lv_iconst (v := 0) C.x C.b dX3_ahead_16 (by decide) ?_
    refine z_callV C hR hS hl (n := 2) (C1 := RX3) (T := TX3) (N := 35) (ci := 3) (y := yX3_looksAll) (bytes := cX3_looksAll) (maxL := 7) (rt := (some .int)) (As := [.int x1, .int 0]) (rest := []) h.1 rfl (lw_V q2041 q2043 qs60 q82 q2044) hdV_X3_looksAll (by decide) rfl rfl (Nat.le_of_ble_eq_true rfl) dX3_ahead_17 h.2 (fun r g_5 hk_ => ?_) (fun x g1 h => z_out C hQ h)
    clear h; obtain ⟨v_6, rfl, h⟩ := hk_
    show GW X E 2 g_5 20 [(0, .ref a0), (1, .int x1)] [.int v_6]
    intro H locs ls hR hS hl
    refine lv_goto (tgt := 24) C.x C.b dX3_ahead_20 (by decide) ?_
    exact z_iret C hQ dX3_ahead_24 h H locs ls hR hS hl
set_option maxHeartbeats 4000000 in
theorem bX3_areSame_24 {X : zX} {d : Nat} {E : zM} {K : Option Value → zG → Prop} {KX : String → zG → Prop} (C : zC X d E RX3 cX3_areSame 5 (some .boolean) "areSame") (hQ : zQ X E K KX) (g : zG) (a0 : Nat) (x1 : Int32) (x2 : Int32) (x3 : Int32) (x4 : Int32) (h : ∃ (fs_1 : List Value) (a_2 : Nat), zGo g 3 a0 = some fs_1 ∧ fs_1[19]? = some (.ref a_2) ∧ ∃ (n_3 : Nat) (f_4 : Nat → Int32), zGi g 19 a_2 = some (n_3, f_4) ∧ vp_in x1 n_3 ∧ ∀ v_5 : Int32, v_5 = f_4 x1.toNatClampNeg → (v_5 ≤ x4 → zbo x3 ∧ K (some (.int x3)) g) ∧ (¬ v_5 ≤ x4 → (x3 = 0 → zbo x3 ∧ K (some (.int x3)) g) ∧ (¬ x3 = 0 → ∃ (fs_6 : List Value) (a_7 : Nat), zGo g 3 a0 = some fs_6 ∧ fs_6[16]? = some (.ref a_7) ∧ ∃ (n_8 : Nat) (f_9 : Nat → Int32), zGi g 16 a_7 = some (n_8, f_9) ∧ vp_in (x1 - x4) n_8 ∧ ∀ v_10 : Int32, v_10 = f_9 (x1 - x4).toNatClampNeg → ∃ (fs_11 : List Value) (a_12 : Nat), zGo g 3 a0 = some fs_11 ∧ fs_11[16]? = some (.ref a_12) ∧ ∃ (n_13 : Nat) (f_14 : Nat → Int32), zGi g 16 a_12 = some (n_13, f_14) ∧ vp_in (x2 - x4) n_13 ∧ ∀ v_15 : Int32, v_15 = f_14 (x2 - x4).toNatClampNeg → (¬ v_10 = v_15 → GW X E 5 g 24 [(0, .ref a0), (1, .int x1), (2, .int x2), (3, .int 0), (4, .int (x4 + 1))] []) ∧ (v_10 = v_15 → ∃ (fs_16 : List Value) (a_17 : Nat), zGo g 3 a0 = some fs_16 ∧ fs_16[17]? = some (.ref a_17) ∧ ∃ (n_18 : Nat) (f_19 : Nat → Int32), zGi g 17 a_17 = some (n_18, f_19) ∧ vp_in (x1 - x4) n_18 ∧ ∀ v_20 : Int32, v_20 = f_19 (x1 - x4).toNatClampNeg → ∃ (fs_21 : List Value) (a_22 : Nat), zGo g 3 a0 = some fs_21 ∧ fs_21[17]? = some (.ref a_22) ∧ ∃ (n_23 : Nat) (f_24 : Nat → Int32), zGi g 17 a_22 = some (n_23, f_24) ∧ vp_in (x2 - x4) n_23 ∧ ∀ v_25 : Int32, v_25 = f_24 (x2 - x4).toNatClampNeg → (¬ v_20 = v_25 → GW X E 5 g 24 [(0, .ref a0), (1, .int x1), (2, .int x2), (3, .int 0), (4, .int (x4 + 1))] []) ∧ (v_20 = v_25 → ∃ (fs_26 : List Value) (a_27 : Nat), zGo g 3 a0 = some fs_26 ∧ fs_26[18]? = some (.ref a_27) ∧ ∃ (n_28 : Nat) (f_29 : Nat → Int32), zGi g 18 a_27 = some (n_28, f_29) ∧ vp_in (x1 - x4) n_28 ∧ ∀ v_30 : Int32, v_30 = f_29 (x1 - x4).toNatClampNeg → ∃ (fs_31 : List Value) (a_32 : Nat), zGo g 3 a0 = some fs_31 ∧ fs_31[18]? = some (.ref a_32) ∧ ∃ (n_33 : Nat) (f_34 : Nat → Int32), zGi g 18 a_32 = some (n_33, f_34) ∧ vp_in (x2 - x4) n_33 ∧ ∀ v_35 : Int32, v_35 = f_34 (x2 - x4).toNatClampNeg → (¬ v_30 = v_35 → GW X E 5 g 24 [(0, .ref a0), (1, .int x1), (2, .int x2), (3, .int 0), (4, .int (x4 + 1))] []) ∧ (v_30 = v_35 → GW X E 5 g 24 [(0, .ref a0), (1, .int x1), (2, .int x2), (3, .int 1), (4, .int (x4 + 1))] [])))))) : GW X E 5 g 24 [(0, .ref a0), (1, .int x1), (2, .int x2), (3, .int x3), (4, .int x4)] [] := by
  intro H locs ls hR hS hl
  refine lv_iload C.x C.b dX3_areSame_24 (lv_at hl 4 rfl) ?_
  refine lv_aload_n C.x C.b dX3_areSame_26 rfl (lv_at hl 0 rfl) ?_
  obtain ⟨fs_1, a_2, q1, q2, h⟩ := h
  refine z_get C hR q1 rfl (ci := 3) rfl in_X3 19 (by decide) q1656 (fun _ h => h) q2 dX3_areSame_27 ?_
  refine lv_iload_n C.x C.b dX3_areSame_30 rfl (lv_at hl 1 rfl) ?_
  obtain ⟨n_3, f_4, q1, q2, h⟩ := h
  refine z_iald C hR q1 (by decide) q2 dX3_areSame_31 ?_
  have h := h _ rfl
  generalize f_4 x1.toNatClampNeg = v_5 at h ⊢
  obtain ⟨h1, h2⟩ := h
  refine lv_icmp_ge (tgt := 114) C.x C.b dX3_areSame_32 (by decide) (fun c => ?_) (fun c => ?_)
  · have h := h1 c; clear h1 h2
    refine lv_iload_n C.x C.b dX3_areSame_114 rfl (lv_at hl 3 rfl) ?_
    exact z_zret C hQ (zbo_n h.1) dX3_areSame_115 h.2 H locs ls hR hS hl
  · have h := h2 c; clear h1 h2
    refine lv_iload_n C.x C.b dX3_areSame_35 rfl (lv_at hl 3 rfl) ?_
    obtain ⟨h1, h2⟩ := h
    refine lv_if_eq (tgt := 114) C.x C.b dX3_areSame_36 (by decide) (fun c => ?_) (fun c => ?_)
    · have h := h1 c; clear h1 h2
      refine lv_iload_n C.x C.b dX3_areSame_114 rfl (lv_at hl 3 rfl) ?_
      exact z_zret C hQ (zbo_n h.1) dX3_areSame_115 h.2 H locs ls hR hS hl
    · have h := h2 c; clear h1 h2
      refine lv_aload_n C.x C.b dX3_areSame_39 rfl (lv_at hl 0 rfl) ?_
      obtain ⟨fs_6, a_7, q1, q2, h⟩ := h
      refine z_get C hR q1 rfl (ci := 3) rfl in_X3 16 (by decide) q1653 (fun _ h => h) q2 dX3_areSame_40 ?_
      refine lv_iload_n C.x C.b dX3_areSame_43 rfl (lv_at hl 1 rfl) ?_
      refine lv_iload C.x C.b dX3_areSame_44 (lv_at hl 4 rfl) ?_
      refine lv_isub C.x C.b dX3_areSame_46 ?_
      obtain ⟨n_8, f_9, q1, q2, h⟩ := h
      refine z_iald C hR q1 (by decide) q2 dX3_areSame_47 ?_
      have h := h _ rfl
      generalize f_9 (x1 - x4).toNatClampNeg = v_10 at h ⊢
      refine lv_aload_n C.x C.b dX3_areSame_48 rfl (lv_at hl 0 rfl) ?_
      obtain ⟨fs_11, a_12, q1, q2, h⟩ := h
      refine z_get C hR q1 rfl (ci := 3) rfl in_X3 16 (by decide) q1653 (fun _ h => h) q2 dX3_areSame_49 ?_
      refine lv_iload_n C.x C.b dX3_areSame_52 rfl (lv_at hl 2 rfl) ?_
      refine lv_iload C.x C.b dX3_areSame_53 (lv_at hl 4 rfl) ?_
      refine lv_isub C.x C.b dX3_areSame_55 ?_
      obtain ⟨n_13, f_14, q1, q2, h⟩ := h
      refine z_iald C hR q1 (by decide) q2 dX3_areSame_56 ?_
      have h := h _ rfl
      generalize f_14 (x2 - x4).toNatClampNeg = v_15 at h ⊢
      obtain ⟨h1, h2⟩ := h
      refine lv_icmp_ne (tgt := 106) C.x C.b dX3_areSame_57 (by decide) (fun c => ?_) (fun c => ?_)
      · have h := h1 c; clear h1 h2
        refine lv_iconst (v := 0) C.x C.b dX3_areSame_106 (by decide) ?_
        refine lv_istore_n (lv' := [(3, .int 0), (0, .ref a0), (1, .int x1), (2, .int x2), (4, .int x4)]) C.x C.b dX3_areSame_107 rfl hl (by decide) rfl (fun ls hl => ?_)
        refine lv_iinc (v := x4 + 1) (lv' := [(4, .int (x4 + 1)), (3, .int 0), (0, .ref a0), (1, .int x1), (2, .int x2)]) C.x C.b dX3_areSame_108 hl (k := 4) rfl rfl (by decide) rfl (fun ls hl => ?_)
        refine lv_goto (tgt := 24) C.x C.b dX3_areSame_111 (by decide) ?_
        exact h H locs ls hR hS (lv_sub hl [2, 3, 4, 1, 0] rfl)
      · have h := h2 c; clear h1 h2
        refine lv_aload_n C.x C.b dX3_areSame_60 rfl (lv_at hl 0 rfl) ?_
        obtain ⟨fs_16, a_17, q1, q2, h⟩ := h
        refine z_get C hR q1 rfl (ci := 3) rfl in_X3 17 (by decide) q1654 (fun _ h => h) q2 dX3_areSame_61 ?_
        refine lv_iload_n C.x C.b dX3_areSame_64 rfl (lv_at hl 1 rfl) ?_
        refine lv_iload C.x C.b dX3_areSame_65 (lv_at hl 4 rfl) ?_
        refine lv_isub C.x C.b dX3_areSame_67 ?_
        obtain ⟨n_18, f_19, q1, q2, h⟩ := h
        refine z_iald C hR q1 (by decide) q2 dX3_areSame_68 ?_
        have h := h _ rfl
        generalize f_19 (x1 - x4).toNatClampNeg = v_20 at h ⊢
        refine lv_aload_n C.x C.b dX3_areSame_69 rfl (lv_at hl 0 rfl) ?_
        obtain ⟨fs_21, a_22, q1, q2, h⟩ := h
        refine z_get C hR q1 rfl (ci := 3) rfl in_X3 17 (by decide) q1654 (fun _ h => h) q2 dX3_areSame_70 ?_
        refine lv_iload_n C.x C.b dX3_areSame_73 rfl (lv_at hl 2 rfl) ?_
        refine lv_iload C.x C.b dX3_areSame_74 (lv_at hl 4 rfl) ?_
        refine lv_isub C.x C.b dX3_areSame_76 ?_
        obtain ⟨n_23, f_24, q1, q2, h⟩ := h
        refine z_iald C hR q1 (by decide) q2 dX3_areSame_77 ?_
        have h := h _ rfl
        generalize f_24 (x2 - x4).toNatClampNeg = v_25 at h ⊢
        obtain ⟨h1, h2⟩ := h
        refine lv_icmp_ne (tgt := 106) C.x C.b dX3_areSame_78 (by decide) (fun c => ?_) (fun c => ?_)
        · have h := h1 c; clear h1 h2
          refine lv_iconst (v := 0) C.x C.b dX3_areSame_106 (by decide) ?_
          refine lv_istore_n (lv' := [(3, .int 0), (0, .ref a0), (1, .int x1), (2, .int x2), (4, .int x4)]) C.x C.b dX3_areSame_107 rfl hl (by decide) rfl (fun ls hl => ?_)
          refine lv_iinc (v := x4 + 1) (lv' := [(4, .int (x4 + 1)), (3, .int 0), (0, .ref a0), (1, .int x1), (2, .int x2)]) C.x C.b dX3_areSame_108 hl (k := 4) rfl rfl (by decide) rfl (fun ls hl => ?_)
          refine lv_goto (tgt := 24) C.x C.b dX3_areSame_111 (by decide) ?_
          exact h H locs ls hR hS (lv_sub hl [2, 3, 4, 1, 0] rfl)
        · have h := h2 c; clear h1 h2
          refine lv_aload_n C.x C.b dX3_areSame_81 rfl (lv_at hl 0 rfl) ?_
          obtain ⟨fs_26, a_27, q1, q2, h⟩ := h
          refine z_get C hR q1 rfl (ci := 3) rfl in_X3 18 (by decide) q1655 (fun _ h => h) q2 dX3_areSame_82 ?_
          refine lv_iload_n C.x C.b dX3_areSame_85 rfl (lv_at hl 1 rfl) ?_
          refine lv_iload C.x C.b dX3_areSame_86 (lv_at hl 4 rfl) ?_
          refine lv_isub C.x C.b dX3_areSame_88 ?_
          obtain ⟨n_28, f_29, q1, q2, h⟩ := h
          refine z_iald C hR q1 (by decide) q2 dX3_areSame_89 ?_
          have h := h _ rfl
          generalize f_29 (x1 - x4).toNatClampNeg = v_30 at h ⊢
          refine lv_aload_n C.x C.b dX3_areSame_90 rfl (lv_at hl 0 rfl) ?_
          obtain ⟨fs_31, a_32, q1, q2, h⟩ := h
          refine z_get C hR q1 rfl (ci := 3) rfl in_X3 18 (by decide) q1655 (fun _ h => h) q2 dX3_areSame_91 ?_
          refine lv_iload_n C.x C.b dX3_areSame_94 rfl (lv_at hl 2 rfl) ?_
          refine lv_iload C.x C.b dX3_areSame_95 (lv_at hl 4 rfl) ?_
          refine lv_isub C.x C.b dX3_areSame_97 ?_
          obtain ⟨n_33, f_34, q1, q2, h⟩ := h
          refine z_iald C hR q1 (by decide) q2 dX3_areSame_98 ?_
          have h := h _ rfl
          generalize f_34 (x2 - x4).toNatClampNeg = v_35 at h ⊢
          obtain ⟨h1, h2⟩ := h
          refine lv_icmp_ne (tgt := 106) C.x C.b dX3_areSame_99 (by decide) (fun c => ?_) (fun c => ?_)
          · have h := h1 c; clear h1 h2
            refine lv_iconst (v := 0) C.x C.b dX3_areSame_106 (by decide) ?_
            refine lv_istore_n (lv' := [(3, .int 0), (0, .ref a0), (1, .int x1), (2, .int x2), (4, .int x4)]) C.x C.b dX3_areSame_107 rfl hl (by decide) rfl (fun ls hl => ?_)
            refine lv_iinc (v := x4 + 1) (lv' := [(4, .int (x4 + 1)), (3, .int 0), (0, .ref a0), (1, .int x1), (2, .int x2)]) C.x C.b dX3_areSame_108 hl (k := 4) rfl rfl (by decide) rfl (fun ls hl => ?_)
            refine lv_goto (tgt := 24) C.x C.b dX3_areSame_111 (by decide) ?_
            exact h H locs ls hR hS (lv_sub hl [2, 3, 4, 1, 0] rfl)
          · have h := h2 c; clear h1 h2
            refine lv_iconst (v := 1) C.x C.b dX3_areSame_102 (by decide) ?_
            refine lv_goto (tgt := 107) C.x C.b dX3_areSame_103 (by decide) ?_
            refine lv_istore_n (lv' := [(3, .int 1), (0, .ref a0), (1, .int x1), (2, .int x2), (4, .int x4)]) C.x C.b dX3_areSame_107 rfl hl (by decide) rfl (fun ls hl => ?_)
            refine lv_iinc (v := x4 + 1) (lv' := [(4, .int (x4 + 1)), (3, .int 1), (0, .ref a0), (1, .int x1), (2, .int x2)]) C.x C.b dX3_areSame_108 hl (k := 4) rfl rfl (by decide) rfl (fun ls hl => ?_)
            refine lv_goto (tgt := 24) C.x C.b dX3_areSame_111 (by decide) ?_
            exact h H locs ls hR hS (lv_sub hl [2, 3, 4, 1, 0] rfl)
set_option maxHeartbeats 4000000 in
theorem mX3_areSame {X : zX} {d : Nat} {g : zG} {K : Option Value → zG → Prop} {KX : String → zG → Prop} (hok : zOk X) (a0 : Nat) (x1 : Int32) (x2 : Int32) (h : ∀ E : zM, zC X d E RX3 cX3_areSame 5 (some .boolean) "areSame" → zQ X E K KX → ∃ (fs_1 : List Value) (a_2 : Nat), zGo g 3 a0 = some fs_1 ∧ fs_1[19]? = some (.ref a_2) ∧ ∃ (n_3 : Nat) (f_4 : Nat → Int32), zGi g 19 a_2 = some (n_3, f_4) ∧ vp_in x1 n_3 ∧ ∀ v_5 : Int32, v_5 = f_4 x1.toNatClampNeg → ∃ (fs_6 : List Value) (a_7 : Nat), zGo g 3 a0 = some fs_6 ∧ fs_6[19]? = some (.ref a_7) ∧ ∃ (n_8 : Nat) (f_9 : Nat → Int32), zGi g 19 a_7 = some (n_8, f_9) ∧ vp_in x2 n_8 ∧ ∀ v_10 : Int32, v_10 = f_9 x2.toNatClampNeg → (¬ v_5 = v_10 → GW X E 5 g 24 [(0, .ref a0), (1, .int x1), (2, .int x2), (3, .int 0), (4, .int 0)] []) ∧ (v_5 = v_10 → GW X E 5 g 24 [(0, .ref a0), (1, .int x1), (2, .int x2), (3, .int 1), (4, .int 0)] [])) : zCal X d yX3_areSame wX3_areSame [.ref a0, .int x1, .int x2] g K KX := by
  refine z_enter hok pn_X3 (Nat.le_of_ble_eq_true rfl) (fun E C hQ => ?_)
  have C : zC X d E RX3 cX3_areSame 5 (some .boolean) "areSame" := C
  have h := h E C hQ
  show GW X E 5 g 0 [(0, .ref a0), (1, .int x1), (2, .int x2)] []
  intro H locs ls hR hS hl
  refine lv_aload_n C.x C.b dX3_areSame_0 rfl (lv_at hl 0 rfl) ?_
  obtain ⟨fs_1, a_2, q1, q2, h⟩ := h
  refine z_get C hR q1 rfl (ci := 3) rfl in_X3 19 (by decide) q1656 (fun _ h => h) q2 dX3_areSame_1 ?_
  refine lv_iload_n C.x C.b dX3_areSame_4 rfl (lv_at hl 1 rfl) ?_
  obtain ⟨n_3, f_4, q1, q2, h⟩ := h
  refine z_iald C hR q1 (by decide) q2 dX3_areSame_5 ?_
  have h := h _ rfl
  generalize f_4 x1.toNatClampNeg = v_5 at h ⊢
  refine lv_aload_n C.x C.b dX3_areSame_6 rfl (lv_at hl 0 rfl) ?_
  obtain ⟨fs_6, a_7, q1, q2, h⟩ := h
  refine z_get C hR q1 rfl (ci := 3) rfl in_X3 19 (by decide) q1656 (fun _ h => h) q2 dX3_areSame_7 ?_
  refine lv_iload_n C.x C.b dX3_areSame_10 rfl (lv_at hl 2 rfl) ?_
  obtain ⟨n_8, f_9, q1, q2, h⟩ := h
  refine z_iald C hR q1 (by decide) q2 dX3_areSame_11 ?_
  have h := h _ rfl
  generalize f_9 x2.toNatClampNeg = v_10 at h ⊢
  obtain ⟨h1, h2⟩ := h
  refine lv_icmp_ne (tgt := 19) C.x C.b dX3_areSame_12 (by decide) (fun c => ?_) (fun c => ?_)
  · have h := h1 c; clear h1 h2
    refine lv_iconst (v := 0) C.x C.b dX3_areSame_19 (by decide) ?_
    refine lv_istore_n (lv' := [(3, .int 0), (0, .ref a0), (1, .int x1), (2, .int x2)]) C.x C.b dX3_areSame_20 rfl hl (by decide) rfl (fun ls hl => ?_)
    refine lv_iconst (v := 0) C.x C.b dX3_areSame_21 (by decide) ?_
    refine lv_istore (lv' := [(4, .int 0), (3, .int 0), (0, .ref a0), (1, .int x1), (2, .int x2)]) C.x C.b dX3_areSame_22 hl (by decide) rfl (fun ls hl => ?_)
    exact h H locs ls hR hS (lv_sub hl [2, 3, 4, 1, 0] rfl)
  · have h := h2 c; clear h1 h2
    refine lv_iconst (v := 1) C.x C.b dX3_areSame_15 (by decide) ?_
    refine lv_goto (tgt := 20) C.x C.b dX3_areSame_16 (by decide) ?_
    refine lv_istore_n (lv' := [(3, .int 1), (0, .ref a0), (1, .int x1), (2, .int x2)]) C.x C.b dX3_areSame_20 rfl hl (by decide) rfl (fun ls hl => ?_)
    refine lv_iconst (v := 0) C.x C.b dX3_areSame_21 (by decide) ?_
    refine lv_istore (lv' := [(4, .int 0), (3, .int 1), (0, .ref a0), (1, .int x1), (2, .int x2)]) C.x C.b dX3_areSame_22 hl (by decide) rfl (fun ls hl => ?_)
    exact h H locs ls hR hS (lv_sub hl [2, 3, 4, 1, 0] rfl)
theorem hdV_X3_areSame : yX3_areSame.cls = RX3 ∧ yX3_areSame.cls ≠ "java/lang/invoke/MethodHandle" ∧ yX3_areSame.cls ≠ "java/lang/invoke/VarHandle" ∧ (parseMethodDescriptor yX3_areSame.desc).map (fun d => d.parameters.length) = some 2 := by decide +kernel
set_option maxHeartbeats 4000000 in
theorem bX3_parts_4 {X : zX} {d : Nat} {E : zM} {K : Option Value → zG → Prop} {KX : String → zG → Prop} (C : zC X (d + 1) E RX3 cX3_parts 5 (some .int) "parts") (hQ : zQ X E K KX) (g : zG) (a0 : Nat) (x1 : Int32) (x2 : Int32) (h : ∃ (fs_1 : List Value) (v_2 : Int32), zGo g 3 a0 = some fs_1 ∧ fs_1[20]? = some (.int v_2) ∧ ((24 * v_2) ≤ x2 → zIs g 3 a0 ∧ zCal X d yX3_tells wX3_tells [.ref a0, .int x1] g (fun r g_3 => ∃ v_4 : Int32, r = some (.int v_4) ∧ K (some (.int v_4)) g_3) KX) ∧ (¬ (24 * v_2) ≤ x2 → ∃ (fs_5 : List Value) (a_6 : Nat), zGo g 3 a0 = some fs_5 ∧ fs_5[23]? = some (.ref a_6) ∧ ∃ (n_7 : Nat) (f_8 : Nat → Int32), zGi g 23 a_6 = some (n_7, f_8) ∧ vp_in (x2 / 24) n_7 ∧ ∀ v_9 : Int32, v_9 = f_8 (x2 / 24).toNatClampNeg → (v_9 ≤ (x2 - x2 / 24 * 24) → GW X E 5 g 40 [(0, .ref a0), (1, .int x1), (2, .int x2), (3, .int 0), (4, .int 0)] []) ∧ (¬ v_9 ≤ (x2 - x2 / 24 * 24) → GW X E 5 g 40 [(0, .ref a0), (1, .int x1), (2, .int x2), (3, .int 1), (4, .int 0)] []))) : GW X E 5 g 4 [(0, .ref a0), (1, .int x1), (2, .int x2)] [] := by
  intro H locs ls hR hS hl
  refine lv_iload_n C.x C.b dX3_parts_4 rfl (lv_at hl 2 rfl) ?_
  refine lv_bipush (v := 24) C.x C.b dX3_parts_5 (by decide) ?_
  refine lv_aload_n C.x C.b dX3_parts_7 rfl (lv_at hl 0 rfl) ?_
  obtain ⟨fs_1, v_2, q1, q2, h⟩ := h
  refine z_get C hR q1 rfl (ci := 3) rfl in_X3 20 (by decide) q1657 (fun _ h => h) q2 dX3_parts_8 ?_
  refine lv_imul C.x C.b dX3_parts_11 ?_
  obtain ⟨h1, h2⟩ := h
  refine lv_icmp_ge (tgt := 116) C.x C.b dX3_parts_12 (by decide) (fun c => ?_) (fun c => ?_)
  · have h := h1 c; clear h1 h2
    refine lv_aload_n C.x C.b dX3_parts_116 rfl (lv_at hl 0 rfl) ?_
    refine lv_iload_n C.x C.b dX3_parts_117 rfl (lv_at hl 1 rfl) ?_
    refine z_callV C hR hS hl (n := 1) (C1 := RX3) (T := TX3) (N := 35) (ci := 3) (y := yX3_tells) (bytes := cX3_tells) (maxL := 2) (rt := (some .int)) (As := [.int x1]) (rest := []) h.1 rfl (lw_V q1952 q1954 qs55 q82 q1955) hdV_X3_tells (by decide) rfl rfl (Nat.le_of_ble_eq_true rfl) dX3_parts_118 h.2 (fun r g_3 hk_ => ?_) (fun x g1 h => z_out C hQ h)
    clear h; obtain ⟨v_4, rfl, h⟩ := hk_
    show GW X E 5 g_3 121 [(0, .ref a0), (1, .int x1), (2, .int x2)] [.int v_4]
    intro H locs ls hR hS hl
    exact z_iret C hQ dX3_parts_121 h H locs ls hR hS hl
  · have h := h2 c; clear h1 h2
    refine lv_iload_n C.x C.b dX3_parts_15 rfl (lv_at hl 2 rfl) ?_
    refine lv_bipush (v := 24) C.x C.b dX3_parts_16 (by decide) ?_
    refine lv_irem C.x C.b dX3_parts_18 (by decide) ?_
    refine lv_aload_n C.x C.b dX3_parts_19 rfl (lv_at hl 0 rfl) ?_
    obtain ⟨fs_5, a_6, q1, q2, h⟩ := h
    refine z_get C hR q1 rfl (ci := 3) rfl in_X3 23 (by decide) q1660 (fun _ h => h) q2 dX3_parts_20 ?_
    refine lv_iload_n C.x C.b dX3_parts_23 rfl (lv_at hl 2 rfl) ?_
    refine lv_bipush (v := 24) C.x C.b dX3_parts_24 (by decide) ?_
    refine lv_idiv C.x C.b dX3_parts_26 (by decide) ?_
    obtain ⟨n_7, f_8, q1, q2, h⟩ := h
    refine z_iald C hR q1 (by decide) q2 dX3_parts_27 ?_
    have h := h _ rfl
    generalize f_8 (x2 / 24).toNatClampNeg = v_9 at h ⊢
    obtain ⟨h1, h2⟩ := h
    refine lv_icmp_ge (tgt := 35) C.x C.b dX3_parts_28 (by decide) (fun c => ?_) (fun c => ?_)
    · have h := h1 c; clear h1 h2
      refine lv_iconst (v := 0) C.x C.b dX3_parts_35 (by decide) ?_
      refine lv_istore_n (lv' := [(3, .int 0), (0, .ref a0), (1, .int x1), (2, .int x2)]) C.x C.b dX3_parts_36 rfl hl (by decide) rfl (fun ls hl => ?_)
      refine lv_iconst (v := 0) C.x C.b dX3_parts_37 (by decide) ?_
      refine lv_istore (lv' := [(4, .int 0), (3, .int 0), (0, .ref a0), (1, .int x1), (2, .int x2)]) C.x C.b dX3_parts_38 hl (by decide) rfl (fun ls hl => ?_)
      exact h H locs ls hR hS (lv_sub hl [2, 3, 4, 1, 0] rfl)
    · have h := h2 c; clear h1 h2
      refine lv_iconst (v := 1) C.x C.b dX3_parts_31 (by decide) ?_
      refine lv_goto (tgt := 36) C.x C.b dX3_parts_32 (by decide) ?_
      refine lv_istore_n (lv' := [(3, .int 1), (0, .ref a0), (1, .int x1), (2, .int x2)]) C.x C.b dX3_parts_36 rfl hl (by decide) rfl (fun ls hl => ?_)
      refine lv_iconst (v := 0) C.x C.b dX3_parts_37 (by decide) ?_
      refine lv_istore (lv' := [(4, .int 0), (3, .int 1), (0, .ref a0), (1, .int x1), (2, .int x2)]) C.x C.b dX3_parts_38 hl (by decide) rfl (fun ls hl => ?_)
      exact h H locs ls hR hS (lv_sub hl [2, 3, 4, 1, 0] rfl)
set_option maxHeartbeats 4000000 in
theorem bX3_parts_40 {X : zX} {d : Nat} {E : zM} {K : Option Value → zG → Prop} {KX : String → zG → Prop} (C : zC X (d + 1) E RX3 cX3_parts 5 (some .int) "parts") (hQ : zQ X E K KX) (g : zG) (a0 : Nat) (x1 : Int32) (x2 : Int32) (x3 : Int32) (x4 : Int32) (h : (x2 ≤ x4 → (x3 = 0 → GW X E 5 g 4 [(0, .ref a0), (1, .int (x1 + 0)), (2, .int (x2 + 1))] []) ∧ (¬ x3 = 0 → GW X E 5 g 4 [(0, .ref a0), (1, .int (x1 + 1)), (2, .int (x2 + 1))] [])) ∧ (¬ x2 ≤ x4 → (x3 = 0 → (x3 = 0 → GW X E 5 g 4 [(0, .ref a0), (1, .int (x1 + 0)), (2, .int (x2 + 1))] []) ∧ (¬ x3 = 0 → GW X E 5 g 4 [(0, .ref a0), (1, .int (x1 + 1)), (2, .int (x2 + 1))] [])) ∧ (¬ x3 = 0 → ∃ (fs_1 : List Value) (a_2 : Nat), zGo g 3 a0 = some fs_1 ∧ fs_1[23]? = some (.ref a_2) ∧ ∃ (n_3 : Nat) (f_4 : Nat → Int32), zGi g 23 a_2 = some (n_3, f_4) ∧ vp_in (x4 / 24) n_3 ∧ ∀ v_5 : Int32, v_5 = f_4 (x4 / 24).toNatClampNeg → (v_5 ≤ (x4 - x4 / 24 * 24) → GW X E 5 g 40 [(0, .ref a0), (1, .int x1), (2, .int x2), (3, .int 1), (4, .int (x4 + 1))] []) ∧ (¬ v_5 ≤ (x4 - x4 / 24 * 24) → zIs g 3 a0 ∧ zCal X d yX3_areSame wX3_areSame [.ref a0, .int (192 + x2), .int (192 + x4)] g (fun r g_6 => ∃ v_7 : Int32, r = some (.int v_7) ∧ zbo v_7 ∧ (¬ v_7 = 0 → GW X E 5 g_6 40 [(0, .ref a0), (1, .int x1), (2, .int x2), (3, .int 0), (4, .int (x4 + 1))] []) ∧ (v_7 = 0 → GW X E 5 g_6 40 [(0, .ref a0), (1, .int x1), (2, .int x2), (3, .int 1), (4, .int (x4 + 1))] [])) KX)))) : GW X E 5 g 40 [(0, .ref a0), (1, .int x1), (2, .int x2), (3, .int x3), (4, .int x4)] [] := by
  intro H locs ls hR hS hl
  refine lv_iload C.x C.b dX3_parts_40 (lv_at hl 4 rfl) ?_
  refine lv_iload_n C.x C.b dX3_parts_42 rfl (lv_at hl 2 rfl) ?_
  obtain ⟨h1, h2⟩ := h
  refine lv_icmp_ge (tgt := 98) C.x C.b dX3_parts_43 (by decide) (fun c => ?_) (fun c => ?_)
  · have h := h1 c; clear h1 h2
    refine lv_iload_n C.x C.b dX3_parts_98 rfl (lv_at hl 1 rfl) ?_
    refine lv_iload_n C.x C.b dX3_parts_99 rfl (lv_at hl 3 rfl) ?_
    obtain ⟨h1, h2⟩ := h
    refine lv_if_eq (tgt := 107) C.x C.b dX3_parts_100 (by decide) (fun c => ?_) (fun c => ?_)
    · have h := h1 c; clear h1 h2
      refine lv_iconst (v := 0) C.x C.b dX3_parts_107 (by decide) ?_
      refine lv_iadd C.x C.b dX3_parts_108 ?_
      refine lv_istore_n (lv' := [(1, .int (x1 + 0)), (0, .ref a0), (2, .int x2), (3, .int x3), (4, .int x4)]) C.x C.b dX3_parts_109 rfl hl (by decide) rfl (fun ls hl => ?_)
      refine lv_iinc (v := x2 + 1) (lv' := [(2, .int (x2 + 1)), (1, .int (x1 + 0)), (0, .ref a0), (3, .int x3), (4, .int x4)]) C.x C.b dX3_parts_110 hl (k := 2) rfl rfl (by decide) rfl (fun ls hl => ?_)
      refine lv_goto (tgt := 4) C.x C.b dX3_parts_113 (by decide) ?_
      exact h H locs ls hR hS (lv_sub hl [2, 1, 0] rfl)
    · have h := h2 c; clear h1 h2
      refine lv_iconst (v := 1) C.x C.b dX3_parts_103 (by decide) ?_
      refine lv_goto (tgt := 108) C.x C.b dX3_parts_104 (by decide) ?_
      refine lv_iadd C.x C.b dX3_parts_108 ?_
      refine lv_istore_n (lv' := [(1, .int (x1 + 1)), (0, .ref a0), (2, .int x2), (3, .int x3), (4, .int x4)]) C.x C.b dX3_parts_109 rfl hl (by decide) rfl (fun ls hl => ?_)
      refine lv_iinc (v := x2 + 1) (lv' := [(2, .int (x2 + 1)), (1, .int (x1 + 1)), (0, .ref a0), (3, .int x3), (4, .int x4)]) C.x C.b dX3_parts_110 hl (k := 2) rfl rfl (by decide) rfl (fun ls hl => ?_)
      refine lv_goto (tgt := 4) C.x C.b dX3_parts_113 (by decide) ?_
      exact h H locs ls hR hS (lv_sub hl [2, 1, 0] rfl)
  · have h := h2 c; clear h1 h2
    refine lv_iload_n C.x C.b dX3_parts_46 rfl (lv_at hl 3 rfl) ?_
    obtain ⟨h1, h2⟩ := h
    refine lv_if_eq (tgt := 98) C.x C.b dX3_parts_47 (by decide) (fun c => ?_) (fun c => ?_)
    · have h := h1 c; clear h1 h2
      refine lv_iload_n C.x C.b dX3_parts_98 rfl (lv_at hl 1 rfl) ?_
      refine lv_iload_n C.x C.b dX3_parts_99 rfl (lv_at hl 3 rfl) ?_
      obtain ⟨h1, h2⟩ := h
      refine lv_if_eq (tgt := 107) C.x C.b dX3_parts_100 (by decide) (fun c => ?_) (fun c => ?_)
      · have h := h1 c; clear h1 h2
        refine lv_iconst (v := 0) C.x C.b dX3_parts_107 (by decide) ?_
        refine lv_iadd C.x C.b dX3_parts_108 ?_
        refine lv_istore_n (lv' := [(1, .int (x1 + 0)), (0, .ref a0), (2, .int x2), (3, .int x3), (4, .int x4)]) C.x C.b dX3_parts_109 rfl hl (by decide) rfl (fun ls hl => ?_)
        refine lv_iinc (v := x2 + 1) (lv' := [(2, .int (x2 + 1)), (1, .int (x1 + 0)), (0, .ref a0), (3, .int x3), (4, .int x4)]) C.x C.b dX3_parts_110 hl (k := 2) rfl rfl (by decide) rfl (fun ls hl => ?_)
        refine lv_goto (tgt := 4) C.x C.b dX3_parts_113 (by decide) ?_
        exact h H locs ls hR hS (lv_sub hl [2, 1, 0] rfl)
      · have h := h2 c; clear h1 h2
        refine lv_iconst (v := 1) C.x C.b dX3_parts_103 (by decide) ?_
        refine lv_goto (tgt := 108) C.x C.b dX3_parts_104 (by decide) ?_
        refine lv_iadd C.x C.b dX3_parts_108 ?_
        refine lv_istore_n (lv' := [(1, .int (x1 + 1)), (0, .ref a0), (2, .int x2), (3, .int x3), (4, .int x4)]) C.x C.b dX3_parts_109 rfl hl (by decide) rfl (fun ls hl => ?_)
        refine lv_iinc (v := x2 + 1) (lv' := [(2, .int (x2 + 1)), (1, .int (x1 + 1)), (0, .ref a0), (3, .int x3), (4, .int x4)]) C.x C.b dX3_parts_110 hl (k := 2) rfl rfl (by decide) rfl (fun ls hl => ?_)
        refine lv_goto (tgt := 4) C.x C.b dX3_parts_113 (by decide) ?_
        exact h H locs ls hR hS (lv_sub hl [2, 1, 0] rfl)
    · have h := h2 c; clear h1 h2
      refine lv_iload C.x C.b dX3_parts_50 (lv_at hl 4 rfl) ?_
      refine lv_bipush (v := 24) C.x C.b dX3_parts_52 (by decide) ?_
      refine lv_irem C.x C.b dX3_parts_54 (by decide) ?_
      refine lv_aload_n C.x C.b dX3_parts_55 rfl (lv_at hl 0 rfl) ?_
      obtain ⟨fs_1, a_2, q1, q2, h⟩ := h
      refine z_get C hR q1 rfl (ci := 3) rfl in_X3 23 (by decide) q1660 (fun _ h => h) q2 dX3_parts_56 ?_
      refine lv_iload C.x C.b dX3_parts_59 (lv_at hl 4 rfl) ?_
      refine lv_bipush (v := 24) C.x C.b dX3_parts_61 (by decide) ?_
      refine lv_idiv C.x C.b dX3_parts_63 (by decide) ?_
      obtain ⟨n_3, f_4, q1, q2, h⟩ := h
      refine z_iald C hR q1 (by decide) q2 dX3_parts_64 ?_
      have h := h _ rfl
      generalize f_4 (x4 / 24).toNatClampNeg = v_5 at h ⊢
      obtain ⟨h1, h2⟩ := h
      refine lv_icmp_ge (tgt := 86) C.x C.b dX3_parts_65 (by decide) (fun c => ?_) (fun c => ?_)
      · have h := h1 c; clear h1 h2
        refine lv_iconst (v := 1) C.x C.b dX3_parts_86 (by decide) ?_
        refine lv_goto (tgt := 91) C.x C.b dX3_parts_87 (by decide) ?_
        refine lv_istore_n (lv' := [(3, .int 1), (0, .ref a0), (1, .int x1), (2, .int x2), (4, .int x4)]) C.x C.b dX3_parts_91 rfl hl (by decide) rfl (fun ls hl => ?_)
        refine lv_iinc (v := x4 + 1) (lv' := [(4, .int (x4 + 1)), (3, .int 1), (0, .ref a0), (1, .int x1), (2, .int x2)]) C.x C.b dX3_parts_92 hl (k := 4) rfl rfl (by decide) rfl (fun ls hl => ?_)
        refine lv_goto (tgt := 40) C.x C.b dX3_parts_95 (by decide) ?_
        exact h H locs ls hR hS (lv_sub hl [2, 3, 4, 1, 0] rfl)
      · have h := h2 c; clear h1 h2
        refine lv_aload_n C.x C.b dX3_parts_68 rfl (lv_at hl 0 rfl) ?_
        refine lv_sipush (v := 192) C.x C.b dX3_parts_69 (by decide) ?_
        refine lv_iload_n C.x C.b dX3_parts_72 rfl (lv_at hl 2 rfl) ?_
        refine lv_iadd C.x C.b dX3_parts_73 ?_
        refine lv_sipush (v := 192) C.x C.b dX3_parts_74 (by decide) ?_
        refine lv_iload C.x C.b dX3_parts_77 (lv_at hl 4 rfl) ?_
        refine lv_iadd C.x C.b dX3_parts_79 ?_
        refine z_callV C hR hS hl (n := 2) (C1 := RX3) (T := TX3) (N := 35) (ci := 3) (y := yX3_areSame) (bytes := cX3_areSame) (maxL := 5) (rt := (some .boolean)) (As := [.int (192 + x2), .int (192 + x4)]) (rest := []) h.1 rfl (lw_V q2063 q2065 qs62 q82 q2066) hdV_X3_areSame (by decide) rfl rfl (Nat.le_of_ble_eq_true rfl) dX3_parts_80 h.2 (fun r g_6 hk_ => ?_) (fun x g1 h => z_out C hQ h)
        clear h; obtain ⟨v_7, rfl, zb_, h⟩ := hk_
        show GW X E 5 g_6 83 [(0, .ref a0), (1, .int x1), (2, .int x2), (3, .int x3), (4, .int x4)] [.int v_7]
        intro H locs ls hR hS hl
        obtain ⟨h1, h2⟩ := h
        refine lv_if_ne (tgt := 90) C.x C.b dX3_parts_83 (by decide) (fun c => ?_) (fun c => ?_)
        · have h := h1 c; clear h1 h2
          refine lv_iconst (v := 0) C.x C.b dX3_parts_90 (by decide) ?_
          refine lv_istore_n (lv' := [(3, .int 0), (0, .ref a0), (1, .int x1), (2, .int x2), (4, .int x4)]) C.x C.b dX3_parts_91 rfl hl (by decide) rfl (fun ls hl => ?_)
          refine lv_iinc (v := x4 + 1) (lv' := [(4, .int (x4 + 1)), (3, .int 0), (0, .ref a0), (1, .int x1), (2, .int x2)]) C.x C.b dX3_parts_92 hl (k := 4) rfl rfl (by decide) rfl (fun ls hl => ?_)
          refine lv_goto (tgt := 40) C.x C.b dX3_parts_95 (by decide) ?_
          exact h H locs ls hR hS (lv_sub hl [2, 3, 4, 1, 0] rfl)
        · have h := h2 c; clear h1 h2
          refine lv_iconst (v := 1) C.x C.b dX3_parts_86 (by decide) ?_
          refine lv_goto (tgt := 91) C.x C.b dX3_parts_87 (by decide) ?_
          refine lv_istore_n (lv' := [(3, .int 1), (0, .ref a0), (1, .int x1), (2, .int x2), (4, .int x4)]) C.x C.b dX3_parts_91 rfl hl (by decide) rfl (fun ls hl => ?_)
          refine lv_iinc (v := x4 + 1) (lv' := [(4, .int (x4 + 1)), (3, .int 1), (0, .ref a0), (1, .int x1), (2, .int x2)]) C.x C.b dX3_parts_92 hl (k := 4) rfl rfl (by decide) rfl (fun ls hl => ?_)
          refine lv_goto (tgt := 40) C.x C.b dX3_parts_95 (by decide) ?_
          exact h H locs ls hR hS (lv_sub hl [2, 3, 4, 1, 0] rfl)
set_option maxHeartbeats 4000000 in
theorem mX3_parts {X : zX} {d : Nat} {g : zG} {K : Option Value → zG → Prop} {KX : String → zG → Prop} (hok : zOk X) (a0 : Nat) (h : ∀ E : zM, zC X (d + 1) E RX3 cX3_parts 5 (some .int) "parts" → zQ X E K KX → GW X E 5 g 4 [(0, .ref a0), (1, .int 0), (2, .int 0)] []) : zCal X (d + 1) yX3_parts wX3_parts [.ref a0] g K KX := by
  refine z_enter hok pn_X3 (Nat.le_of_ble_eq_true rfl) (fun E C hQ => ?_)
  have C : zC X (d + 1) E RX3 cX3_parts 5 (some .int) "parts" := C
  have h := h E C hQ
  show GW X E 5 g 0 [(0, .ref a0)] []
  intro H locs ls hR hS hl
  refine lv_iconst (v := 0) C.x C.b dX3_parts_0 (by decide) ?_
  refine lv_istore_n (lv' := [(1, .int 0), (0, .ref a0)]) C.x C.b dX3_parts_1 rfl hl (by decide) rfl (fun ls hl => ?_)
  refine lv_iconst (v := 0) C.x C.b dX3_parts_2 (by decide) ?_
  refine lv_istore_n (lv' := [(2, .int 0), (1, .int 0), (0, .ref a0)]) C.x C.b dX3_parts_3 rfl hl (by decide) rfl (fun ls hl => ?_)
  exact h H locs ls hR hS (lv_sub hl [2, 1, 0] rfl)
set_option maxHeartbeats 4000000 in
theorem bX3_endOf_2 {X : zX} {d : Nat} {E : zM} {K : Option Value → zG → Prop} {KX : String → zG → Prop} (C : zC X d E RX3 cX3_endOf 3 (some .int) "endOf") (hQ : zQ X E K KX) (g : zG) (a0 : Nat) (x1 : Int32) (x2 : Int32) (h : ∃ (fs_1 : List Value) (v_2 : Int32), zGo g 3 a0 = some fs_1 ∧ fs_1[3]? = some (.int v_2) ∧ (v_2 ≤ x2 → K (some (.int x2)) g) ∧ (¬ v_2 ≤ x2 → ∃ (fs_3 : List Value) (a_4 : Nat), zGo g 3 a0 = some fs_3 ∧ fs_3[7]? = some (.ref a_4) ∧ ∃ (fs_5 : List Value) (a_6 : Nat), zGo g 3 a0 = some fs_5 ∧ fs_5[12]? = some (.ref a_6) ∧ ∃ (n_7 : Nat) (f_8 : Nat → Int32), zGi g 12 a_6 = some (n_7, f_8) ∧ vp_in x2 n_7 ∧ ∀ v_9 : Int32, v_9 = f_8 x2.toNatClampNeg → ∃ (n_10 : Nat) (f_11 : Nat → Int32), zGi g 7 a_4 = some (n_10, f_11) ∧ vp_in v_9 n_10 ∧ ∀ v_12 : Int32, v_12 = f_11 v_9.toNatClampNeg → ∃ (fs_13 : List Value) (a_14 : Nat), zGo g 3 a0 = some fs_13 ∧ fs_13[7]? = some (.ref a_14) ∧ ∃ (fs_15 : List Value) (a_16 : Nat), zGo g 3 a0 = some fs_15 ∧ fs_15[12]? = some (.ref a_16) ∧ ∃ (n_17 : Nat) (f_18 : Nat → Int32), zGi g 12 a_16 = some (n_17, f_18) ∧ vp_in x1 n_17 ∧ ∀ v_19 : Int32, v_19 = f_18 x1.toNatClampNeg → ∃ (n_20 : Nat) (f_21 : Nat → Int32), zGi g 7 a_14 = some (n_20, f_21) ∧ vp_in v_19 n_20 ∧ ∀ v_22 : Int32, v_22 = f_21 v_19.toNatClampNeg → (¬ v_12 = v_22 → K (some (.int x2)) g) ∧ (v_12 = v_22 → GW X E 3 g 2 [(0, .ref a0), (1, .int x1), (2, .int (x2 + 1))] []))) : GW X E 3 g 2 [(0, .ref a0), (1, .int x1), (2, .int x2)] [] := by
  intro H locs ls hR hS hl
  refine lv_iload_n C.x C.b dX3_endOf_2 rfl (lv_at hl 2 rfl) ?_
  refine lv_aload_n C.x C.b dX3_endOf_3 rfl (lv_at hl 0 rfl) ?_
  obtain ⟨fs_1, v_2, q1, q2, h⟩ := h
  refine z_get C hR q1 rfl (ci := 3) rfl in_X3 3 (by decide) q1640 (fun _ h => h) q2 dX3_endOf_4 ?_
  obtain ⟨h1, h2⟩ := h
  refine lv_icmp_ge (tgt := 41) C.x C.b dX3_endOf_7 (by decide) (fun c => ?_) (fun c => ?_)
  · have h := h1 c; clear h1 h2
    refine lv_iload_n C.x C.b dX3_endOf_41 rfl (lv_at hl 2 rfl) ?_
    exact z_iret C hQ dX3_endOf_42 h H locs ls hR hS hl
  · have h := h2 c; clear h1 h2
    refine lv_aload_n C.x C.b dX3_endOf_10 rfl (lv_at hl 0 rfl) ?_
    obtain ⟨fs_3, a_4, q1, q2, h⟩ := h
    refine z_get C hR q1 rfl (ci := 3) rfl in_X3 7 (by decide) q1644 (fun _ h => h) q2 dX3_endOf_11 ?_
    refine lv_aload_n C.x C.b dX3_endOf_14 rfl (lv_at hl 0 rfl) ?_
    obtain ⟨fs_5, a_6, q1, q2, h⟩ := h
    refine z_get C hR q1 rfl (ci := 3) rfl in_X3 12 (by decide) q1649 (fun _ h => h) q2 dX3_endOf_15 ?_
    refine lv_iload_n C.x C.b dX3_endOf_18 rfl (lv_at hl 2 rfl) ?_
    obtain ⟨n_7, f_8, q1, q2, h⟩ := h
    refine z_iald C hR q1 (by decide) q2 dX3_endOf_19 ?_
    have h := h _ rfl
    generalize f_8 x2.toNatClampNeg = v_9 at h ⊢
    obtain ⟨n_10, f_11, q1, q2, h⟩ := h
    refine z_iald C hR q1 (by decide) q2 dX3_endOf_20 ?_
    have h := h _ rfl
    generalize f_11 v_9.toNatClampNeg = v_12 at h ⊢
    refine lv_aload_n C.x C.b dX3_endOf_21 rfl (lv_at hl 0 rfl) ?_
    obtain ⟨fs_13, a_14, q1, q2, h⟩ := h
    refine z_get C hR q1 rfl (ci := 3) rfl in_X3 7 (by decide) q1644 (fun _ h => h) q2 dX3_endOf_22 ?_
    refine lv_aload_n C.x C.b dX3_endOf_25 rfl (lv_at hl 0 rfl) ?_
    obtain ⟨fs_15, a_16, q1, q2, h⟩ := h
    refine z_get C hR q1 rfl (ci := 3) rfl in_X3 12 (by decide) q1649 (fun _ h => h) q2 dX3_endOf_26 ?_
    refine lv_iload_n C.x C.b dX3_endOf_29 rfl (lv_at hl 1 rfl) ?_
    obtain ⟨n_17, f_18, q1, q2, h⟩ := h
    refine z_iald C hR q1 (by decide) q2 dX3_endOf_30 ?_
    have h := h _ rfl
    generalize f_18 x1.toNatClampNeg = v_19 at h ⊢
    obtain ⟨n_20, f_21, q1, q2, h⟩ := h
    refine z_iald C hR q1 (by decide) q2 dX3_endOf_31 ?_
    have h := h _ rfl
    generalize f_21 v_19.toNatClampNeg = v_22 at h ⊢
    obtain ⟨h1, h2⟩ := h
    refine lv_icmp_ne (tgt := 41) C.x C.b dX3_endOf_32 (by decide) (fun c => ?_) (fun c => ?_)
    · have h := h1 c; clear h1 h2
      refine lv_iload_n C.x C.b dX3_endOf_41 rfl (lv_at hl 2 rfl) ?_
      exact z_iret C hQ dX3_endOf_42 h H locs ls hR hS hl
    · have h := h2 c; clear h1 h2
      refine lv_iinc (v := x2 + 1) (lv' := [(2, .int (x2 + 1)), (0, .ref a0), (1, .int x1)]) C.x C.b dX3_endOf_35 hl (k := 2) rfl rfl (by decide) rfl (fun ls hl => ?_)
      refine lv_goto (tgt := 2) C.x C.b dX3_endOf_38 (by decide) ?_
      exact h H locs ls hR hS (lv_sub hl [1, 2, 0] rfl)
set_option maxHeartbeats 4000000 in
theorem mX3_endOf {X : zX} {d : Nat} {g : zG} {K : Option Value → zG → Prop} {KX : String → zG → Prop} (hok : zOk X) (a0 : Nat) (x1 : Int32) (h : ∀ E : zM, zC X d E RX3 cX3_endOf 3 (some .int) "endOf" → zQ X E K KX → GW X E 3 g 2 [(0, .ref a0), (1, .int x1), (2, .int x1)] []) : zCal X d yX3_endOf wX3_endOf [.ref a0, .int x1] g K KX := by
  refine z_enter hok pn_X3 (Nat.le_of_ble_eq_true rfl) (fun E C hQ => ?_)
  have C : zC X d E RX3 cX3_endOf 3 (some .int) "endOf" := C
  have h := h E C hQ
  show GW X E 3 g 0 [(0, .ref a0), (1, .int x1)] []
  intro H locs ls hR hS hl
  refine lv_iload_n C.x C.b dX3_endOf_0 rfl (lv_at hl 1 rfl) ?_
  refine lv_istore_n (lv' := [(2, .int x1), (0, .ref a0), (1, .int x1)]) C.x C.b dX3_endOf_1 rfl hl (by decide) rfl (fun ls hl => ?_)
  exact h H locs ls hR hS (lv_sub hl [1, 2, 0] rfl)
set_option maxHeartbeats 4000000 in
theorem bX3_mixed_9 {X : zX} {d : Nat} {E : zM} {K : Option Value → zG → Prop} {KX : String → zG → Prop} (C : zC X d E RX3 cX3_mixed 9 (some .long) "mixed") (hQ : zQ X E K KX) (g : zG) (x1 : Int32) (x2 : Int32) (x3 : Int32) (x4 : Int64) (x6 : Int32) (x7 : Int32) (h : (((x1 + x2) + x3) < x7 → K (some (.long x4)) g) ∧ (¬ ((x1 + x2) + x3) < x7 → (x1 < x7 → ((x1 + x2) < x7 → GW X E 9 g 54 [(1, .int x1), (2, .int x2), (3, .int x3), (4, .long x4), (6, .int (x6 + 1)), (7, .int x7)] [.int ((x7 - x1) - x2)]) ∧ (¬ (x1 + x2) < x7 → GW X E 9 g 54 [(1, .int x1), (2, .int x2), (3, .int x3), (4, .long x4), (6, .int (x6 + 1)), (7, .int x7)] [.int (x7 - x1)])) ∧ (¬ x1 < x7 → GW X E 9 g 54 [(1, .int x1), (2, .int x2), (3, .int x3), (4, .long x4), (6, .int (x6 + 1)), (7, .int x7)] [.int x7]))) : GW X E 9 g 9 [(1, .int x1), (2, .int x2), (3, .int x3), (4, .long x4), (6, .int x6), (7, .int x7)] [] := by
  intro H locs ls hR hS hl
  refine lv_iload C.x C.b dX3_mixed_9 (lv_at hl 5 rfl) ?_
  refine lv_iload_n C.x C.b dX3_mixed_11 rfl (lv_at hl 0 rfl) ?_
  refine lv_iload_n C.x C.b dX3_mixed_12 rfl (lv_at hl 1 rfl) ?_
  refine lv_iadd C.x C.b dX3_mixed_13 ?_
  refine lv_iload_n C.x C.b dX3_mixed_14 rfl (lv_at hl 2 rfl) ?_
  refine lv_iadd C.x C.b dX3_mixed_15 ?_
  obtain ⟨h1, h2⟩ := h
  refine lv_icmp_gt (tgt := 105) C.x C.b dX3_mixed_16 (by decide) (fun c => ?_) (fun c => ?_)
  · have h := h1 c; clear h1 h2
    refine lv_lload C.x C.b dX3_mixed_105 (lv_at hl 3 rfl) ?_
    exact z_lret C hQ dX3_mixed_107 h H locs ls hR hS hl
  · have h := h2 c; clear h1 h2
    refine lv_iinc (v := x6 + 1) (lv' := [(6, .int (x6 + 1)), (1, .int x1), (2, .int x2), (3, .int x3), (4, .long x4), (7, .int x7)]) C.x C.b dX3_mixed_19 hl (k := 4) rfl rfl (by decide) rfl (fun ls hl => ?_)
    refine lv_iload C.x C.b dX3_mixed_22 (lv_at hl 5 rfl) ?_
    refine lv_iload_n C.x C.b dX3_mixed_24 rfl (lv_at hl 1 rfl) ?_
    obtain ⟨h1, h2⟩ := h
    refine lv_icmp_gt (tgt := 33) C.x C.b dX3_mixed_25 (by decide) (fun c => ?_) (fun c => ?_)
    · have h := h1 c; clear h1 h2
      refine lv_iload C.x C.b dX3_mixed_33 (lv_at hl 5 rfl) ?_
      refine lv_iload_n C.x C.b dX3_mixed_35 rfl (lv_at hl 1 rfl) ?_
      refine lv_iload_n C.x C.b dX3_mixed_36 rfl (lv_at hl 2 rfl) ?_
      refine lv_iadd C.x C.b dX3_mixed_37 ?_
      obtain ⟨h1, h2⟩ := h
      refine lv_icmp_gt (tgt := 48) C.x C.b dX3_mixed_38 (by decide) (fun c => ?_) (fun c => ?_)
      · have h := h1 c; clear h1 h2
        refine lv_iload C.x C.b dX3_mixed_48 (lv_at hl 5 rfl) ?_
        refine lv_iload_n C.x C.b dX3_mixed_50 rfl (lv_at hl 1 rfl) ?_
        refine lv_isub C.x C.b dX3_mixed_51 ?_
        refine lv_iload_n C.x C.b dX3_mixed_52 rfl (lv_at hl 2 rfl) ?_
        refine lv_isub C.x C.b dX3_mixed_53 ?_
        exact h H locs ls hR hS (lv_sub hl [1, 2, 3, 4, 0, 5] rfl)
      · have h := h2 c; clear h1 h2
        refine lv_iload C.x C.b dX3_mixed_41 (lv_at hl 5 rfl) ?_
        refine lv_iload_n C.x C.b dX3_mixed_43 rfl (lv_at hl 1 rfl) ?_
        refine lv_isub C.x C.b dX3_mixed_44 ?_
        refine lv_goto (tgt := 54) C.x C.b dX3_mixed_45 (by decide) ?_
        exact h H locs ls hR hS (lv_sub hl [1, 2, 3, 4, 0, 5] rfl)
    · have h := h2 c; clear h1 h2
      refine lv_iload C.x C.b dX3_mixed_28 (lv_at hl 5 rfl) ?_
      refine lv_goto (tgt := 54) C.x C.b dX3_mixed_30 (by decide) ?_
      exact h H locs ls hR hS (lv_sub hl [1, 2, 3, 4, 0, 5] rfl)
set_option maxHeartbeats 4000000 in
theorem bX3_mixed_54 {X : zX} {d : Nat} {E : zM} {K : Option Value → zG → Prop} {KX : String → zG → Prop} (C : zC X d E RX3 cX3_mixed 9 (some .long) "mixed") (hQ : zQ X E K KX) (g : zG) (x1 : Int32) (x2 : Int32) (x3 : Int32) (x4 : Int64) (x6 : Int32) (x7 : Int32) (t0 : Int32) (h : ¬ t0.toInt64 = 0 ∧ (((lg_cmp ((x4 * x6.toInt64) / t0.toInt64) 1000000) ≤ 0 → (¬ (lg_cmp ((x4 * x6.toInt64) / t0.toInt64) 1000000) = 0 → GW X E 9 g 9 [(1, .int x1), (2, .int x2), (3, .int x3), (4, .long ((x4 * x6.toInt64) / t0.toInt64)), (6, .int x6), (7, .int (x7 + 1))] []) ∧ ((lg_cmp ((x4 * x6.toInt64) / t0.toInt64) 1000000) = 0 → K (some (.long ((x4 * x6.toInt64) / t0.toInt64))) g)) ∧ (¬ (lg_cmp ((x4 * x6.toInt64) / t0.toInt64) 1000000) ≤ 0 → (¬ (lg_cmp 1000000 1000000) = 0 → GW X E 9 g 9 [(1, .int x1), (2, .int x2), (3, .int x3), (4, .long 1000000), (6, .int x6), (7, .int (x7 + 1))] []) ∧ ((lg_cmp 1000000 1000000) = 0 → K (some (.long 1000000)) g)))) : GW X E 9 g 54 [(1, .int x1), (2, .int x2), (3, .int x3), (4, .long x4), (6, .int x6), (7, .int x7)] [.int t0] := by
  intro H locs ls hR hS hl
  refine lv_istore (lv' := [(8, .int t0), (1, .int x1), (2, .int x2), (3, .int x3), (4, .long x4), (6, .int x6), (7, .int x7)]) C.x C.b dX3_mixed_54 hl (by decide) rfl (fun ls hl => ?_)
  refine lv_lload C.x C.b dX3_mixed_56 (lv_at hl 4 rfl) ?_
  refine lv_iload C.x C.b dX3_mixed_58 (lv_at hl 5 rfl) ?_
  refine lv_i2l C.x C.b dX3_mixed_60 rfl ?_
  refine lv_lmul C.x C.b dX3_mixed_61 ?_
  refine lv_iload C.x C.b dX3_mixed_62 (lv_at hl 0 rfl) ?_
  refine lv_i2l C.x C.b dX3_mixed_64 rfl ?_
  obtain ⟨q1, h⟩ := h
  refine lv_ldiv C.x C.b dX3_mixed_65 q1 ?_
  refine lv_lstore (lv' := [(4, .long ((x4 * x6.toInt64) / t0.toInt64)), (8, .int t0), (1, .int x1), (2, .int x2), (3, .int x3), (6, .int x6), (7, .int x7)]) C.x C.b dX3_mixed_66 hl (by decide) rfl (fun ls hl => ?_)
  refine lv_lload C.x C.b dX3_mixed_68 (lv_at hl 0 rfl) ?_
  refine lv_ldc2 C.x C.b C.ow (C.ts _ q2086) dX3_mixed_70 ?_
  refine W.lcmp C.x C.b dX3_mixed_73 ?_
  obtain ⟨h1, h2⟩ := h
  refine lv_if_le (tgt := 83) C.x C.b dX3_mixed_74 (by decide) (fun c => ?_) (fun c => ?_)
  · have h := h1 c; clear h1 h2
    refine lv_lload C.x C.b dX3_mixed_83 (lv_at hl 0 rfl) ?_
    refine lv_lstore (lv' := [(4, .long ((x4 * x6.toInt64) / t0.toInt64)), (8, .int t0), (1, .int x1), (2, .int x2), (3, .int x3), (6, .int x6), (7, .int x7)]) C.x C.b dX3_mixed_85 hl (by decide) rfl (fun ls hl => ?_)
    refine lv_lload C.x C.b dX3_mixed_87 (lv_at hl 0 rfl) ?_
    refine lv_ldc2 C.x C.b C.ow (C.ts _ q2086) dX3_mixed_89 ?_
    refine W.lcmp C.x C.b dX3_mixed_92 ?_
    obtain ⟨h1, h2⟩ := h
    refine lv_if_ne (tgt := 99) C.x C.b dX3_mixed_93 (by decide) (fun c => ?_) (fun c => ?_)
    · have h := h1 c; clear h1 h2
      refine lv_iinc (v := x7 + 1) (lv' := [(7, .int (x7 + 1)), (4, .long ((x4 * x6.toInt64) / t0.toInt64)), (8, .int t0), (1, .int x1), (2, .int x2), (3, .int x3), (6, .int x6)]) C.x C.b dX3_mixed_99 hl (k := 6) rfl rfl (by decide) rfl (fun ls hl => ?_)
      refine lv_goto (tgt := 9) C.x C.b dX3_mixed_102 (by decide) ?_
      exact h H locs ls hR hS (lv_sub hl [3, 4, 5, 1, 6, 0] rfl)
    · have h := h2 c; clear h1 h2
      refine lv_lload C.x C.b dX3_mixed_96 (lv_at hl 0 rfl) ?_
      exact z_lret C hQ dX3_mixed_98 h H locs ls hR hS hl
  · have h := h2 c; clear h1 h2
    refine lv_ldc2 C.x C.b C.ow (C.ts _ q2086) dX3_mixed_77 ?_
    refine lv_goto (tgt := 85) C.x C.b dX3_mixed_80 (by decide) ?_
    refine lv_lstore (lv' := [(4, .long 1000000), (8, .int t0), (1, .int x1), (2, .int x2), (3, .int x3), (6, .int x6), (7, .int x7)]) C.x C.b dX3_mixed_85 hl (by decide) rfl (fun ls hl => ?_)
    refine lv_lload C.x C.b dX3_mixed_87 (lv_at hl 0 rfl) ?_
    refine lv_ldc2 C.x C.b C.ow (C.ts _ q2086) dX3_mixed_89 ?_
    refine W.lcmp C.x C.b dX3_mixed_92 ?_
    obtain ⟨h1, h2⟩ := h
    refine lv_if_ne (tgt := 99) C.x C.b dX3_mixed_93 (by decide) (fun c => ?_) (fun c => ?_)
    · have h := h1 c; clear h1 h2
      refine lv_iinc (v := x7 + 1) (lv' := [(7, .int (x7 + 1)), (4, .long 1000000), (8, .int t0), (1, .int x1), (2, .int x2), (3, .int x3), (6, .int x6)]) C.x C.b dX3_mixed_99 hl (k := 6) rfl rfl (by decide) rfl (fun ls hl => ?_)
      refine lv_goto (tgt := 9) C.x C.b dX3_mixed_102 (by decide) ?_
      exact h H locs ls hR hS (lv_sub hl [3, 4, 5, 1, 6, 0] rfl)
    · have h := h2 c; clear h1 h2
      refine lv_lload C.x C.b dX3_mixed_96 (lv_at hl 0 rfl) ?_
      exact z_lret C hQ dX3_mixed_98 h H locs ls hR hS hl
set_option maxHeartbeats 4000000 in
theorem mX3_mixed {X : zX} {d : Nat} {g : zG} {K : Option Value → zG → Prop} {KX : String → zG → Prop} (hok : zOk X) (x0 : Int32) (x1 : Int32) (x2 : Int32) (x3 : Int32) (h : ∀ E : zM, zC X d E RX3 cX3_mixed 9 (some .long) "mixed" → zQ X E K KX → GW X E 9 g 9 [(1, .int x1), (2, .int x2), (3, .int x3), (4, .long 1), (6, .int x0), (7, .int 1)] []) : zCal X d yX3_mixed wX3_mixed [.int x0, .int x1, .int x2, .int x3] g K KX := by
  refine z_enter hok pn_X3 (Nat.le_of_ble_eq_true rfl) (fun E C hQ => ?_)
  have C : zC X d E RX3 cX3_mixed 9 (some .long) "mixed" := C
  have h := h E C hQ
  show GW X E 9 g 0 [(0, .int x0), (1, .int x1), (2, .int x2), (3, .int x3)] []
  intro H locs ls hR hS hl
  refine lv_lconst (v := 1) C.x C.b dX3_mixed_0 (by decide) ?_
  refine lv_lstore (lv' := [(4, .long 1), (0, .int x0), (1, .int x1), (2, .int x2), (3, .int x3)]) C.x C.b dX3_mixed_1 hl (by decide) rfl (fun ls hl => ?_)
  refine lv_iload_n C.x C.b dX3_mixed_3 rfl (lv_at hl 1 rfl) ?_
  refine lv_istore (lv' := [(6, .int x0), (4, .long 1), (0, .int x0), (1, .int x1), (2, .int x2), (3, .int x3)]) C.x C.b dX3_mixed_4 hl (by decide) rfl (fun ls hl => ?_)
  refine lv_iconst (v := 1) C.x C.b dX3_mixed_6 (by decide) ?_
  refine lv_istore (lv' := [(7, .int 1), (6, .int x0), (4, .long 1), (0, .int x0), (1, .int x1), (2, .int x2), (3, .int x3)]) C.x C.b dX3_mixed_7 hl (by decide) rfl (fun ls hl => ?_)
  exact h H locs ls hR hS (lv_sub hl [4, 5, 6, 2, 1, 0] rfl)
set_option maxHeartbeats 4000000 in
theorem bX3_ofNode_6 {X : zX} {d : Nat} {E : zM} {K : Option Value → zG → Prop} {KX : String → zG → Prop} (C : zC X d E RX3 cX3_ofNode 6 (some .int) "ofNode") (hQ : zQ X E K KX) (g : zG) (a0 : Nat) (x2 : Int32) (x3 : Int32) (x4 : Int32) (x5 : Int32) (h : (x2 ≤ x5 → K (some (.int x4)) g) ∧ (¬ x2 ≤ x5 → ∃ (fs_1 : List Value) (a_2 : Nat), zGo g 3 a0 = some fs_1 ∧ fs_1[6]? = some (.ref a_2) ∧ ∃ (fs_3 : List Value) (a_4 : Nat), zGo g 3 a0 = some fs_3 ∧ fs_3[12]? = some (.ref a_4) ∧ ∃ (n_5 : Nat) (f_6 : Nat → Int32), zGi g 12 a_4 = some (n_5, f_6) ∧ vp_in x5 n_5 ∧ ∀ v_7 : Int32, v_7 = f_6 x5.toNatClampNeg → ∃ (n_8 : Nat) (f_9 : Nat → Int32), zGi g 6 a_2 = some (n_8, f_9) ∧ vp_in v_7 n_8 ∧ ∀ v_10 : Int32, v_10 = f_9 v_7.toNatClampNeg → (¬ v_10 = x3 → GW X E 6 g 6 [(0, .ref a0), (2, .int x2), (3, .int x3), (4, .int (x4 + 0)), (5, .int (x5 + 1))] []) ∧ (v_10 = x3 → GW X E 6 g 6 [(0, .ref a0), (2, .int x2), (3, .int x3), (4, .int (x4 + 1)), (5, .int (x5 + 1))] []))) : GW X E 6 g 6 [(0, .ref a0), (2, .int x2), (3, .int x3), (4, .int x4), (5, .int x5)] [] := by
  intro H locs ls hR hS hl
  refine lv_iload C.x C.b dX3_ofNode_6 (lv_at hl 4 rfl) ?_
  refine lv_iload_n C.x C.b dX3_ofNode_8 rfl (lv_at hl 1 rfl) ?_
  obtain ⟨h1, h2⟩ := h
  refine lv_icmp_ge (tgt := 44) C.x C.b dX3_ofNode_9 (by decide) (fun c => ?_) (fun c => ?_)
  · have h := h1 c; clear h1 h2
    refine lv_iload C.x C.b dX3_ofNode_44 (lv_at hl 3 rfl) ?_
    exact z_iret C hQ dX3_ofNode_46 h H locs ls hR hS hl
  · have h := h2 c; clear h1 h2
    refine lv_iload C.x C.b dX3_ofNode_12 (lv_at hl 3 rfl) ?_
    refine lv_aload_n C.x C.b dX3_ofNode_14 rfl (lv_at hl 0 rfl) ?_
    obtain ⟨fs_1, a_2, q1, q2, h⟩ := h
    refine z_get C hR q1 rfl (ci := 3) rfl in_X3 6 (by decide) q1643 (fun _ h => h) q2 dX3_ofNode_15 ?_
    refine lv_aload_n C.x C.b dX3_ofNode_18 rfl (lv_at hl 0 rfl) ?_
    obtain ⟨fs_3, a_4, q1, q2, h⟩ := h
    refine z_get C hR q1 rfl (ci := 3) rfl in_X3 12 (by decide) q1649 (fun _ h => h) q2 dX3_ofNode_19 ?_
    refine lv_iload C.x C.b dX3_ofNode_22 (lv_at hl 4 rfl) ?_
    obtain ⟨n_5, f_6, q1, q2, h⟩ := h
    refine z_iald C hR q1 (by decide) q2 dX3_ofNode_24 ?_
    have h := h _ rfl
    generalize f_6 x5.toNatClampNeg = v_7 at h ⊢
    obtain ⟨n_8, f_9, q1, q2, h⟩ := h
    refine z_iald C hR q1 (by decide) q2 dX3_ofNode_25 ?_
    have h := h _ rfl
    generalize f_9 v_7.toNatClampNeg = v_10 at h ⊢
    refine lv_iload_n C.x C.b dX3_ofNode_26 rfl (lv_at hl 2 rfl) ?_
    obtain ⟨h1, h2⟩ := h
    refine lv_icmp_ne (tgt := 34) C.x C.b dX3_ofNode_27 (by decide) (fun c => ?_) (fun c => ?_)
    · have h := h1 c; clear h1 h2
      refine lv_iconst (v := 0) C.x C.b dX3_ofNode_34 (by decide) ?_
      refine lv_iadd C.x C.b dX3_ofNode_35 ?_
      refine lv_istore (lv' := [(4, .int (x4 + 0)), (0, .ref a0), (2, .int x2), (3, .int x3), (5, .int x5)]) C.x C.b dX3_ofNode_36 hl (by decide) rfl (fun ls hl => ?_)
      refine lv_iinc (v := x5 + 1) (lv' := [(5, .int (x5 + 1)), (4, .int (x4 + 0)), (0, .ref a0), (2, .int x2), (3, .int x3)]) C.x C.b dX3_ofNode_38 hl (k := 4) rfl rfl (by decide) rfl (fun ls hl => ?_)
      refine lv_goto (tgt := 6) C.x C.b dX3_ofNode_41 (by decide) ?_
      exact h H locs ls hR hS (lv_sub hl [2, 3, 4, 1, 0] rfl)
    · have h := h2 c; clear h1 h2
      refine lv_iconst (v := 1) C.x C.b dX3_ofNode_30 (by decide) ?_
      refine lv_goto (tgt := 35) C.x C.b dX3_ofNode_31 (by decide) ?_
      refine lv_iadd C.x C.b dX3_ofNode_35 ?_
      refine lv_istore (lv' := [(4, .int (x4 + 1)), (0, .ref a0), (2, .int x2), (3, .int x3), (5, .int x5)]) C.x C.b dX3_ofNode_36 hl (by decide) rfl (fun ls hl => ?_)
      refine lv_iinc (v := x5 + 1) (lv' := [(5, .int (x5 + 1)), (4, .int (x4 + 1)), (0, .ref a0), (2, .int x2), (3, .int x3)]) C.x C.b dX3_ofNode_38 hl (k := 4) rfl rfl (by decide) rfl (fun ls hl => ?_)
      refine lv_goto (tgt := 6) C.x C.b dX3_ofNode_41 (by decide) ?_
      exact h H locs ls hR hS (lv_sub hl [2, 3, 4, 1, 0] rfl)
set_option maxHeartbeats 4000000 in
theorem mX3_ofNode {X : zX} {d : Nat} {g : zG} {K : Option Value → zG → Prop} {KX : String → zG → Prop} (hok : zOk X) (a0 : Nat) (x1 : Int32) (x2 : Int32) (x3 : Int32) (h : ∀ E : zM, zC X d E RX3 cX3_ofNode 6 (some .int) "ofNode" → zQ X E K KX → GW X E 6 g 6 [(0, .ref a0), (2, .int x2), (3, .int x3), (4, .int 0), (5, .int x1)] []) : zCal X d yX3_ofNode wX3_ofNode [.ref a0, .int x1, .int x2, .int x3] g K KX := by
  refine z_enter hok pn_X3 (Nat.le_of_ble_eq_true rfl) (fun E C hQ => ?_)
  have C : zC X d E RX3 cX3_ofNode 6 (some .int) "ofNode" := C
  have h := h E C hQ
  show GW X E 6 g 0 [(0, .ref a0), (1, .int x1), (2, .int x2), (3, .int x3)] []
  intro H locs ls hR hS hl
  refine lv_iconst (v := 0) C.x C.b dX3_ofNode_0 (by decide) ?_
  refine lv_istore (lv' := [(4, .int 0), (0, .ref a0), (1, .int x1), (2, .int x2), (3, .int x3)]) C.x C.b dX3_ofNode_1 hl (by decide) rfl (fun ls hl => ?_)
  refine lv_iload_n C.x C.b dX3_ofNode_3 rfl (lv_at hl 2 rfl) ?_
  refine lv_istore (lv' := [(5, .int x1), (4, .int 0), (0, .ref a0), (1, .int x1), (2, .int x2), (3, .int x3)]) C.x C.b dX3_ofNode_4 hl (by decide) rfl (fun ls hl => ?_)
  exact h H locs ls hR hS (lv_sub hl [2, 4, 5, 1, 0] rfl)
theorem hdS_X3_mixed : yX3_mixed.cls ≠ "java/lang/invoke/MethodHandle" ∧ yX3_mixed.cls ≠ "java/lang/invoke/VarHandle" ∧ (parseMethodDescriptor yX3_mixed.desc).map (fun d => d.parameters.length) = some 4 := by decide +kernel
theorem hdV_X3_endOf : yX3_endOf.cls = RX3 ∧ yX3_endOf.cls ≠ "java/lang/invoke/MethodHandle" ∧ yX3_endOf.cls ≠ "java/lang/invoke/VarHandle" ∧ (parseMethodDescriptor yX3_endOf.desc).map (fun d => d.parameters.length) = some 1 := by decide +kernel
theorem hdV_X3_ofNode : yX3_ofNode.cls = RX3 ∧ yX3_ofNode.cls ≠ "java/lang/invoke/MethodHandle" ∧ yX3_ofNode.cls ≠ "java/lang/invoke/VarHandle" ∧ (parseMethodDescriptor yX3_ofNode.desc).map (fun d => d.parameters.length) = some 3 := by decide +kernel
set_option maxHeartbeats 4000000 in
theorem bX3_ordersOf_4 {X : zX} {d : Nat} {E : zM} {K : Option Value → zG → Prop} {KX : String → zG → Prop} (C : zC X (d + 1) E RX3 cX3_ordersOf 5 (some .int) "ordersOf") (hQ : zQ X E K KX) (g : zG) (a0 : Nat) (x1 : Int64) (x3 : Int32) (h : ∃ (fs_1 : List Value) (v_2 : Int32), zGo g 3 a0 = some fs_1 ∧ fs_1[3]? = some (.int v_2) ∧ (v_2 ≤ x3 → K (some (.int x1.toInt32)) g) ∧ (¬ v_2 ≤ x3 → zIs g 3 a0 ∧ zCal X d yX3_endOf wX3_endOf [.ref a0, .int x3] g (fun r g_3 => ∃ v_4 : Int32, r = some (.int v_4) ∧ zIs g_3 3 a0 ∧ zCal X d yX3_ofNode wX3_ofNode [.ref a0, .int x3, .int v_4, .int 0] g_3 (fun r g_5 => ∃ v_6 : Int32, r = some (.int v_6) ∧ zIs g_5 3 a0 ∧ zCal X d yX3_ofNode wX3_ofNode [.ref a0, .int x3, .int v_4, .int 1] g_5 (fun r g_7 => ∃ v_8 : Int32, r = some (.int v_8) ∧ zIs g_7 3 a0 ∧ zCal X d yX3_ofNode wX3_ofNode [.ref a0, .int x3, .int v_4, .int 2] g_7 (fun r g_9 => ∃ v_10 : Int32, r = some (.int v_10) ∧ zIs g_9 3 a0 ∧ zCal X d yX3_ofNode wX3_ofNode [.ref a0, .int x3, .int v_4, .int 3] g_9 (fun r g_11 => ∃ v_12 : Int32, r = some (.int v_12) ∧ zCal X d yX3_mixed wX3_mixed [.int v_6, .int v_8, .int v_10, .int v_12] g_11 (fun r g_13 => ∃ v_14 : Int64, r = some (.long v_14) ∧ ((lg_cmp (x1 * v_14) 120) ≤ 0 → GW X E 5 g_13 4 [(0, .ref a0), (1, .long (x1 * v_14)), (3, .int v_4)] []) ∧ (¬ (lg_cmp (x1 * v_14) 120) ≤ 0 → GW X E 5 g_13 4 [(0, .ref a0), (1, .long 121), (3, .int v_4)] [])) KX) KX) KX) KX) KX) KX)) : GW X E 5 g 4 [(0, .ref a0), (1, .long x1), (3, .int x3)] [] := by
  intro H locs ls hR hS hl
  refine lv_iload_n C.x C.b dX3_ordersOf_4 rfl (lv_at hl 2 rfl) ?_
  refine lv_aload_n C.x C.b dX3_ordersOf_5 rfl (lv_at hl 0 rfl) ?_
  obtain ⟨fs_1, v_2, q1, q2, h⟩ := h
  refine z_get C hR q1 rfl (ci := 3) rfl in_X3 3 (by decide) q1640 (fun _ h => h) q2 dX3_ordersOf_6 ?_
  obtain ⟨h1, h2⟩ := h
  refine lv_icmp_ge (tgt := 79) C.x C.b dX3_ordersOf_9 (by decide) (fun c => ?_) (fun c => ?_)
  · have h := h1 c; clear h1 h2
    refine lv_lload_n C.x C.b dX3_ordersOf_79 rfl (lv_at hl 1 rfl) ?_
    refine lv_l2i C.x C.b dX3_ordersOf_80 rfl ?_
    exact z_iret C hQ dX3_ordersOf_81 h H locs ls hR hS hl
  · have h := h2 c; clear h1 h2
    refine lv_aload_n C.x C.b dX3_ordersOf_12 rfl (lv_at hl 0 rfl) ?_
    refine lv_iload_n C.x C.b dX3_ordersOf_13 rfl (lv_at hl 2 rfl) ?_
    refine z_callV C hR hS hl (n := 1) (C1 := RX3) (T := TX3) (N := 35) (ci := 3) (y := yX3_endOf) (bytes := cX3_endOf) (maxL := 3) (rt := (some .int)) (As := [.int x3]) (rest := []) h.1 rfl (lw_V q2075 q2077 qs64 q82 q2078) hdV_X3_endOf (by decide) rfl rfl (Nat.le_of_ble_eq_true rfl) dX3_ordersOf_14 h.2 (fun r g_3 hk_ => ?_) (fun x g1 h => z_out C hQ h)
    clear h; obtain ⟨v_4, rfl, h⟩ := hk_
    show GW X E 5 g_3 17 [(0, .ref a0), (1, .long x1), (3, .int x3)] [.int v_4]
    intro H locs ls hR hS hl
    refine lv_istore (lv' := [(4, .int v_4), (0, .ref a0), (1, .long x1), (3, .int x3)]) C.x C.b dX3_ordersOf_17 hl (by decide) rfl (fun ls hl => ?_)
    refine lv_lload_n C.x C.b dX3_ordersOf_19 rfl (lv_at hl 2 rfl) ?_
    refine lv_aload_n C.x C.b dX3_ordersOf_20 rfl (lv_at hl 1 rfl) ?_
    refine lv_iload_n C.x C.b dX3_ordersOf_21 rfl (lv_at hl 3 rfl) ?_
    refine lv_iload C.x C.b dX3_ordersOf_22 (lv_at hl 0 rfl) ?_
    refine lv_iconst (v := 0) C.x C.b dX3_ordersOf_24 (by decide) ?_
    refine z_callV C hR hS hl (n := 3) (C1 := RX3) (T := TX3) (N := 35) (ci := 3) (y := yX3_ofNode) (bytes := cX3_ofNode) (maxL := 6) (rt := (some .int)) (As := [.int x3, .int v_4, .int 0]) (rest := [.long x1]) h.1 rfl (lw_V q2079 q2081 qs65 q82 q2082) hdV_X3_ofNode (by decide) rfl rfl (Nat.le_of_ble_eq_true rfl) dX3_ordersOf_25 h.2 (fun r g_5 hk_ => ?_) (fun x g1 h => z_out C hQ h)
    clear h; obtain ⟨v_6, rfl, h⟩ := hk_
    show GW X E 5 g_5 28 [(4, .int v_4), (0, .ref a0), (1, .long x1), (3, .int x3)] [.int v_6, .long x1]
    intro H locs ls hR hS hl
    refine lv_aload_n C.x C.b dX3_ordersOf_28 rfl (lv_at hl 1 rfl) ?_
    refine lv_iload_n C.x C.b dX3_ordersOf_29 rfl (lv_at hl 3 rfl) ?_
    refine lv_iload C.x C.b dX3_ordersOf_30 (lv_at hl 0 rfl) ?_
    refine lv_iconst (v := 1) C.x C.b dX3_ordersOf_32 (by decide) ?_
    refine z_callV C hR hS hl (n := 3) (C1 := RX3) (T := TX3) (N := 35) (ci := 3) (y := yX3_ofNode) (bytes := cX3_ofNode) (maxL := 6) (rt := (some .int)) (As := [.int x3, .int v_4, .int 1]) (rest := [.int v_6, .long x1]) h.1 rfl (lw_V q2079 q2081 qs65 q82 q2082) hdV_X3_ofNode (by decide) rfl rfl (Nat.le_of_ble_eq_true rfl) dX3_ordersOf_33 h.2 (fun r g_7 hk_ => ?_) (fun x g1 h => z_out C hQ h)
    clear h; obtain ⟨v_8, rfl, h⟩ := hk_
    show GW X E 5 g_7 36 [(4, .int v_4), (0, .ref a0), (1, .long x1), (3, .int x3)] [.int v_8, .int v_6, .long x1]
    intro H locs ls hR hS hl
    refine lv_aload_n C.x C.b dX3_ordersOf_36 rfl (lv_at hl 1 rfl) ?_
    refine lv_iload_n C.x C.b dX3_ordersOf_37 rfl (lv_at hl 3 rfl) ?_
    refine lv_iload C.x C.b dX3_ordersOf_38 (lv_at hl 0 rfl) ?_
    refine lv_iconst (v := 2) C.x C.b dX3_ordersOf_40 (by decide) ?_
    refine z_callV C hR hS hl (n := 3) (C1 := RX3) (T := TX3) (N := 35) (ci := 3) (y := yX3_ofNode) (bytes := cX3_ofNode) (maxL := 6) (rt := (some .int)) (As := [.int x3, .int v_4, .int 2]) (rest := [.int v_8, .int v_6, .long x1]) h.1 rfl (lw_V q2079 q2081 qs65 q82 q2082) hdV_X3_ofNode (by decide) rfl rfl (Nat.le_of_ble_eq_true rfl) dX3_ordersOf_41 h.2 (fun r g_9 hk_ => ?_) (fun x g1 h => z_out C hQ h)
    clear h; obtain ⟨v_10, rfl, h⟩ := hk_
    show GW X E 5 g_9 44 [(4, .int v_4), (0, .ref a0), (1, .long x1), (3, .int x3)] [.int v_10, .int v_8, .int v_6, .long x1]
    intro H locs ls hR hS hl
    refine lv_aload_n C.x C.b dX3_ordersOf_44 rfl (lv_at hl 1 rfl) ?_
    refine lv_iload_n C.x C.b dX3_ordersOf_45 rfl (lv_at hl 3 rfl) ?_
    refine lv_iload C.x C.b dX3_ordersOf_46 (lv_at hl 0 rfl) ?_
    refine lv_iconst (v := 3) C.x C.b dX3_ordersOf_48 (by decide) ?_
    refine z_callV C hR hS hl (n := 3) (C1 := RX3) (T := TX3) (N := 35) (ci := 3) (y := yX3_ofNode) (bytes := cX3_ofNode) (maxL := 6) (rt := (some .int)) (As := [.int x3, .int v_4, .int 3]) (rest := [.int v_10, .int v_8, .int v_6, .long x1]) h.1 rfl (lw_V q2079 q2081 qs65 q82 q2082) hdV_X3_ofNode (by decide) rfl rfl (Nat.le_of_ble_eq_true rfl) dX3_ordersOf_49 h.2 (fun r g_11 hk_ => ?_) (fun x g1 h => z_out C hQ h)
    clear h; obtain ⟨v_12, rfl, h⟩ := hk_
    show GW X E 5 g_11 52 [(4, .int v_4), (0, .ref a0), (1, .long x1), (3, .int x3)] [.int v_12, .int v_10, .int v_8, .int v_6, .long x1]
    intro H locs ls hR hS hl
    refine z_callS C hR hS hl (n := 4) (y := yX3_mixed) (bytes := cX3_mixed) (maxL := 9) (rt := (some .long)) (As := [.int v_6, .int v_8, .int v_10, .int v_12]) (rest := [.long x1]) (lw_S q2083 q2084 q82 q2085) hdS_X3_mixed (by decide) rfl rfl (Nat.le_of_ble_eq_true rfl) dX3_ordersOf_52 h (fun r g_13 hk_ => ?_) (fun x g1 h => z_out C hQ h)
    clear h; obtain ⟨v_14, rfl, h⟩ := hk_
    show GW X E 5 g_13 55 [(4, .int v_4), (0, .ref a0), (1, .long x1), (3, .int x3)] [.long v_14, .long x1]
    intro H locs ls hR hS hl
    refine lv_lmul C.x C.b dX3_ordersOf_55 ?_
    refine lv_lstore_n (lv' := [(1, .long (x1 * v_14)), (4, .int v_4), (0, .ref a0), (3, .int x3)]) C.x C.b dX3_ordersOf_56 rfl hl (by decide) rfl (fun ls hl => ?_)
    refine lv_lload_n C.x C.b dX3_ordersOf_57 rfl (lv_at hl 0 rfl) ?_
    refine lv_ldc2 C.x C.b C.ow (C.ts _ q2087) dX3_ordersOf_58 ?_
    refine W.lcmp C.x C.b dX3_ordersOf_61 ?_
    obtain ⟨h1, h2⟩ := h
    refine lv_if_le (tgt := 71) C.x C.b dX3_ordersOf_62 (by decide) (fun c => ?_) (fun c => ?_)
    · have h := h1 c; clear h1 h2
      refine lv_lload_n C.x C.b dX3_ordersOf_71 rfl (lv_at hl 0 rfl) ?_
      refine lv_lstore_n (lv' := [(1, .long (x1 * v_14)), (4, .int v_4), (0, .ref a0), (3, .int x3)]) C.x C.b dX3_ordersOf_72 rfl hl (by decide) rfl (fun ls hl => ?_)
      refine lv_iload C.x C.b dX3_ordersOf_73 (lv_at hl 1 rfl) ?_
      refine lv_istore_n (lv' := [(3, .int v_4), (1, .long (x1 * v_14)), (4, .int v_4), (0, .ref a0)]) C.x C.b dX3_ordersOf_75 rfl hl (by decide) rfl (fun ls hl => ?_)
      refine lv_goto (tgt := 4) C.x C.b dX3_ordersOf_76 (by decide) ?_
      exact h H locs ls hR hS (lv_sub hl [3, 1, 0] rfl)
    · have h := h2 c; clear h1 h2
      refine lv_ldc2 C.x C.b C.ow (C.ts _ q2088) dX3_ordersOf_65 ?_
      refine lv_goto (tgt := 72) C.x C.b dX3_ordersOf_68 (by decide) ?_
      refine lv_lstore_n (lv' := [(1, .long 121), (4, .int v_4), (0, .ref a0), (3, .int x3)]) C.x C.b dX3_ordersOf_72 rfl hl (by decide) rfl (fun ls hl => ?_)
      refine lv_iload C.x C.b dX3_ordersOf_73 (lv_at hl 1 rfl) ?_
      refine lv_istore_n (lv' := [(3, .int v_4), (1, .long 121), (4, .int v_4), (0, .ref a0)]) C.x C.b dX3_ordersOf_75 rfl hl (by decide) rfl (fun ls hl => ?_)
      refine lv_goto (tgt := 4) C.x C.b dX3_ordersOf_76 (by decide) ?_
      exact h H locs ls hR hS (lv_sub hl [3, 1, 0] rfl)
set_option maxHeartbeats 4000000 in
theorem mX3_ordersOf {X : zX} {d : Nat} {g : zG} {K : Option Value → zG → Prop} {KX : String → zG → Prop} (hok : zOk X) (a0 : Nat) (h : ∀ E : zM, zC X (d + 1) E RX3 cX3_ordersOf 5 (some .int) "ordersOf" → zQ X E K KX → GW X E 5 g 4 [(0, .ref a0), (1, .long 1), (3, .int 0)] []) : zCal X (d + 1) yX3_ordersOf wX3_ordersOf [.ref a0] g K KX := by
  refine z_enter hok pn_X3 (Nat.le_of_ble_eq_true rfl) (fun E C hQ => ?_)
  have C : zC X (d + 1) E RX3 cX3_ordersOf 5 (some .int) "ordersOf" := C
  have h := h E C hQ
  show GW X E 5 g 0 [(0, .ref a0)] []
  intro H locs ls hR hS hl
  refine lv_lconst (v := 1) C.x C.b dX3_ordersOf_0 (by decide) ?_
  refine lv_lstore_n (lv' := [(1, .long 1), (0, .ref a0)]) C.x C.b dX3_ordersOf_1 rfl hl (by decide) rfl (fun ls hl => ?_)
  refine lv_iconst (v := 0) C.x C.b dX3_ordersOf_2 (by decide) ?_
  refine lv_istore_n (lv' := [(3, .int 0), (1, .long 1), (0, .ref a0)]) C.x C.b dX3_ordersOf_3 rfl hl (by decide) rfl (fun ls hl => ?_)
  exact h H locs ls hR hS (lv_sub hl [2, 1, 0] rfl)
theorem hdV_X3_ordersOf : yX3_ordersOf.cls = RX3 ∧ yX3_ordersOf.cls ≠ "java/lang/invoke/MethodHandle" ∧ yX3_ordersOf.cls ≠ "java/lang/invoke/VarHandle" ∧ (parseMethodDescriptor yX3_ordersOf.desc).map (fun d => d.parameters.length) = some 0 := by decide +kernel
set_option maxHeartbeats 4000000 in
theorem mX3_orders {X : zX} {d : Nat} {g : zG} {K : Option Value → zG → Prop} {KX : String → zG → Prop} (hok : zOk X) (a0 : Nat) (h : zIs g 3 a0 ∧ zCal X d yX3_ordersOf wX3_ordersOf [.ref a0] g (fun r g_1 => ∃ v_2 : Int32, r = some (.int v_2) ∧ zIs g_1 3 a0 ∧ zCal X d yX3_tells wX3_tells [.ref a0, .int v_2] g_1 (fun r g_3 => ∃ v_4 : Int32, r = some (.int v_4) ∧ K (some (.int v_4)) g_3) KX) KX) : zCal X (d + 1) yX3_orders wX3_orders [.ref a0] g K KX := by
  refine z_enter hok pn_X3 (Nat.le_of_ble_eq_true rfl) (fun E C hQ => ?_)
  have C : zC X (d + 1) E RX3 cX3_orders 1 (some .int) "orders" := C
  show GW X E 1 g 0 [(0, .ref a0)] []
  intro H locs ls hR hS hl
  refine lv_aload_n C.x C.b dX3_orders_0 rfl (lv_at hl 0 rfl) ?_
  refine lv_aload_n C.x C.b dX3_orders_1 rfl (lv_at hl 0 rfl) ?_
  refine z_callV C hR hS hl (n := 0) (C1 := RX3) (T := TX3) (N := 35) (ci := 3) (y := yX3_ordersOf) (bytes := cX3_ordersOf) (maxL := 5) (rt := (some .int)) (As := []) (rest := [.ref a0]) h.1 rfl (lw_V q2071 q2073 qs63 q82 q2074) hdV_X3_ordersOf (by decide) rfl rfl (Nat.le_of_ble_eq_true rfl) dX3_orders_2 h.2 (fun r g_1 hk_ => ?_) (fun x g1 h => z_out C hQ h)
  clear h; obtain ⟨v_2, rfl, h⟩ := hk_
  show GW X E 1 g_1 5 [(0, .ref a0)] [.int v_2, .ref a0]
  intro H locs ls hR hS hl
  refine z_callV C hR hS hl (n := 1) (C1 := RX3) (T := TX3) (N := 35) (ci := 3) (y := yX3_tells) (bytes := cX3_tells) (maxL := 2) (rt := (some .int)) (As := [.int v_2]) (rest := []) h.1 rfl (lw_V q1952 q1954 qs55 q82 q1955) hdV_X3_tells (by decide) rfl rfl (Nat.le_of_ble_eq_true rfl) dX3_orders_5 h.2 (fun r g_3 hk_ => ?_) (fun x g1 h => z_out C hQ h)
  clear h; obtain ⟨v_4, rfl, h⟩ := hk_
  show GW X E 1 g_3 8 [(0, .ref a0)] [.int v_4]
  intro H locs ls hR hS hl
  exact z_iret C hQ dX3_orders_8 h H locs ls hR hS hl
set_option maxHeartbeats 4000000 in
theorem bX3_laysOrder_12 {X : zX} {d : Nat} {E : zM} {K : Option Value → zG → Prop} {KX : String → zG → Prop} (C : zC X (d + 1) E RX3 cX3_laysOrder 19 none "laysOrder") (hQ : zQ X E K KX) (g : zG) (a0 : Nat) (x2 : Int32) (x3 : Int32) (h : ∃ (fs_1 : List Value) (v_2 : Int32), zGo g 3 a0 = some fs_1 ∧ fs_1[3]? = some (.int v_2) ∧ (v_2 ≤ x3 → K none g) ∧ (¬ v_2 ≤ x3 → zIs g 3 a0 ∧ zCal X d yX3_endOf wX3_endOf [.ref a0, .int x3] g (fun r g_3 => ∃ v_4 : Int32, r = some (.int v_4) ∧ zIs g_3 3 a0 ∧ zCal X d yX3_ofNode wX3_ofNode [.ref a0, .int x3, .int v_4, .int 0] g_3 (fun r g_5 => ∃ v_6 : Int32, r = some (.int v_6) ∧ zIs g_5 3 a0 ∧ zCal X d yX3_ofNode wX3_ofNode [.ref a0, .int x3, .int v_4, .int 1] g_5 (fun r g_7 => ∃ v_8 : Int32, r = some (.int v_8) ∧ zIs g_7 3 a0 ∧ zCal X d yX3_ofNode wX3_ofNode [.ref a0, .int x3, .int v_4, .int 2] g_7 (fun r g_9 => ∃ v_10 : Int32, r = some (.int v_10) ∧ zIs g_9 3 a0 ∧ zCal X d yX3_ofNode wX3_ofNode [.ref a0, .int x3, .int v_4, .int 3] g_9 (fun r g_11 => ∃ v_12 : Int32, r = some (.int v_12) ∧ zCal X d yX3_mixed wX3_mixed [.int v_6, .int v_8, .int v_10, .int v_12] g_11 (fun r g_13 => ∃ v_14 : Int64, r = some (.long v_14) ∧ ¬ v_14.toInt32 = 0 ∧ (¬ v_14.toInt32 = 0 ∧ (GW X E 19 g_13 118 [(0, .ref a0), (2, .int (x2 / v_14.toInt32)), (4, .int v_4), (5, .int v_6), (6, .int v_8), (7, .int v_10), (8, .int v_12), (10, .int (x2 - x2 / v_14.toInt32 * v_14.toInt32)), (11, .int x3), (12, .int (x3 + v_6)), (13, .int ((x3 + v_6) + v_8)), (14, .int (((x3 + v_6) + v_8) + v_10)), (15, .int x3)] []))) KX) KX) KX) KX) KX) KX)) : GW X E 19 g 12 [(0, .ref a0), (2, .int x2), (3, .int x3)] [] := by
  intro H locs ls hR hS hl
  refine lv_iload_n C.x C.b dX3_laysOrder_12 rfl (lv_at hl 2 rfl) ?_
  refine lv_aload_n C.x C.b dX3_laysOrder_13 rfl (lv_at hl 0 rfl) ?_
  obtain ⟨fs_1, v_2, q1, q2, h⟩ := h
  refine z_get C hR q1 rfl (ci := 3) rfl in_X3 3 (by decide) q1640 (fun _ h => h) q2 dX3_laysOrder_14 ?_
  obtain ⟨h1, h2⟩ := h
  refine lv_icmp_ge (tgt := 361) C.x C.b dX3_laysOrder_17 (by decide) (fun c => ?_) (fun c => ?_)
  · have h := h1 c; clear h1 h2
    exact z_vret C hQ dX3_laysOrder_361 h H locs ls hR hS hl
  · have h := h2 c; clear h1 h2
    refine lv_aload_n C.x C.b dX3_laysOrder_20 rfl (lv_at hl 0 rfl) ?_
    refine lv_iload_n C.x C.b dX3_laysOrder_21 rfl (lv_at hl 2 rfl) ?_
    refine z_callV C hR hS hl (n := 1) (C1 := RX3) (T := TX3) (N := 35) (ci := 3) (y := yX3_endOf) (bytes := cX3_endOf) (maxL := 3) (rt := (some .int)) (As := [.int x3]) (rest := []) h.1 rfl (lw_V q2075 q2077 qs64 q82 q2078) hdV_X3_endOf (by decide) rfl rfl (Nat.le_of_ble_eq_true rfl) dX3_laysOrder_22 h.2 (fun r g_3 hk_ => ?_) (fun x g1 h => z_out C hQ h)
    clear h; obtain ⟨v_4, rfl, h⟩ := hk_
    show GW X E 19 g_3 25 [(0, .ref a0), (2, .int x2), (3, .int x3)] [.int v_4]
    intro H locs ls hR hS hl
    refine lv_istore (lv' := [(4, .int v_4), (0, .ref a0), (2, .int x2), (3, .int x3)]) C.x C.b dX3_laysOrder_25 hl (by decide) rfl (fun ls hl => ?_)
    refine lv_aload_n C.x C.b dX3_laysOrder_27 rfl (lv_at hl 1 rfl) ?_
    refine lv_iload_n C.x C.b dX3_laysOrder_28 rfl (lv_at hl 3 rfl) ?_
    refine lv_iload C.x C.b dX3_laysOrder_29 (lv_at hl 0 rfl) ?_
    refine lv_iconst (v := 0) C.x C.b dX3_laysOrder_31 (by decide) ?_
    refine z_callV C hR hS hl (n := 3) (C1 := RX3) (T := TX3) (N := 35) (ci := 3) (y := yX3_ofNode) (bytes := cX3_ofNode) (maxL := 6) (rt := (some .int)) (As := [.int x3, .int v_4, .int 0]) (rest := []) h.1 rfl (lw_V q2079 q2081 qs65 q82 q2082) hdV_X3_ofNode (by decide) rfl rfl (Nat.le_of_ble_eq_true rfl) dX3_laysOrder_32 h.2 (fun r g_5 hk_ => ?_) (fun x g1 h => z_out C hQ h)
    clear h; obtain ⟨v_6, rfl, h⟩ := hk_
    show GW X E 19 g_5 35 [(4, .int v_4), (0, .ref a0), (2, .int x2), (3, .int x3)] [.int v_6]
    intro H locs ls hR hS hl
    refine lv_istore (lv' := [(5, .int v_6), (4, .int v_4), (0, .ref a0), (2, .int x2), (3, .int x3)]) C.x C.b dX3_laysOrder_35 hl (by decide) rfl (fun ls hl => ?_)
    refine lv_aload_n C.x C.b dX3_laysOrder_37 rfl (lv_at hl 2 rfl) ?_
    refine lv_iload_n C.x C.b dX3_laysOrder_38 rfl (lv_at hl 4 rfl) ?_
    refine lv_iload C.x C.b dX3_laysOrder_39 (lv_at hl 1 rfl) ?_
    refine lv_iconst (v := 1) C.x C.b dX3_laysOrder_41 (by decide) ?_
    refine z_callV C hR hS hl (n := 3) (C1 := RX3) (T := TX3) (N := 35) (ci := 3) (y := yX3_ofNode) (bytes := cX3_ofNode) (maxL := 6) (rt := (some .int)) (As := [.int x3, .int v_4, .int 1]) (rest := []) h.1 rfl (lw_V q2079 q2081 qs65 q82 q2082) hdV_X3_ofNode (by decide) rfl rfl (Nat.le_of_ble_eq_true rfl) dX3_laysOrder_42 h.2 (fun r g_7 hk_ => ?_) (fun x g1 h => z_out C hQ h)
    clear h; obtain ⟨v_8, rfl, h⟩ := hk_
    show GW X E 19 g_7 45 [(5, .int v_6), (4, .int v_4), (0, .ref a0), (2, .int x2), (3, .int x3)] [.int v_8]
    intro H locs ls hR hS hl
    refine lv_istore (lv' := [(6, .int v_8), (5, .int v_6), (4, .int v_4), (0, .ref a0), (2, .int x2), (3, .int x3)]) C.x C.b dX3_laysOrder_45 hl (by decide) rfl (fun ls hl => ?_)
    refine lv_aload_n C.x C.b dX3_laysOrder_47 rfl (lv_at hl 3 rfl) ?_
    refine lv_iload_n C.x C.b dX3_laysOrder_48 rfl (lv_at hl 5 rfl) ?_
    refine lv_iload C.x C.b dX3_laysOrder_49 (lv_at hl 2 rfl) ?_
    refine lv_iconst (v := 2) C.x C.b dX3_laysOrder_51 (by decide) ?_
    refine z_callV C hR hS hl (n := 3) (C1 := RX3) (T := TX3) (N := 35) (ci := 3) (y := yX3_ofNode) (bytes := cX3_ofNode) (maxL := 6) (rt := (some .int)) (As := [.int x3, .int v_4, .int 2]) (rest := []) h.1 rfl (lw_V q2079 q2081 qs65 q82 q2082) hdV_X3_ofNode (by decide) rfl rfl (Nat.le_of_ble_eq_true rfl) dX3_laysOrder_52 h.2 (fun r g_9 hk_ => ?_) (fun x g1 h => z_out C hQ h)
    clear h; obtain ⟨v_10, rfl, h⟩ := hk_
    show GW X E 19 g_9 55 [(6, .int v_8), (5, .int v_6), (4, .int v_4), (0, .ref a0), (2, .int x2), (3, .int x3)] [.int v_10]
    intro H locs ls hR hS hl
    refine lv_istore (lv' := [(7, .int v_10), (6, .int v_8), (5, .int v_6), (4, .int v_4), (0, .ref a0), (2, .int x2), (3, .int x3)]) C.x C.b dX3_laysOrder_55 hl (by decide) rfl (fun ls hl => ?_)
    refine lv_aload_n C.x C.b dX3_laysOrder_57 rfl (lv_at hl 4 rfl) ?_
    refine lv_iload_n C.x C.b dX3_laysOrder_58 rfl (lv_at hl 6 rfl) ?_
    refine lv_iload C.x C.b dX3_laysOrder_59 (lv_at hl 3 rfl) ?_
    refine lv_iconst (v := 3) C.x C.b dX3_laysOrder_61 (by decide) ?_
    refine z_callV C hR hS hl (n := 3) (C1 := RX3) (T := TX3) (N := 35) (ci := 3) (y := yX3_ofNode) (bytes := cX3_ofNode) (maxL := 6) (rt := (some .int)) (As := [.int x3, .int v_4, .int 3]) (rest := []) h.1 rfl (lw_V q2079 q2081 qs65 q82 q2082) hdV_X3_ofNode (by decide) rfl rfl (Nat.le_of_ble_eq_true rfl) dX3_laysOrder_62 h.2 (fun r g_11 hk_ => ?_) (fun x g1 h => z_out C hQ h)
    clear h; obtain ⟨v_12, rfl, h⟩ := hk_
    show GW X E 19 g_11 65 [(7, .int v_10), (6, .int v_8), (5, .int v_6), (4, .int v_4), (0, .ref a0), (2, .int x2), (3, .int x3)] [.int v_12]
    intro H locs ls hR hS hl
    refine lv_istore (lv' := [(8, .int v_12), (7, .int v_10), (6, .int v_8), (5, .int v_6), (4, .int v_4), (0, .ref a0), (2, .int x2), (3, .int x3)]) C.x C.b dX3_laysOrder_65 hl (by decide) rfl (fun ls hl => ?_)
    refine lv_iload C.x C.b dX3_laysOrder_67 (lv_at hl 3 rfl) ?_
    refine lv_iload C.x C.b dX3_laysOrder_69 (lv_at hl 2 rfl) ?_
    refine lv_iload C.x C.b dX3_laysOrder_71 (lv_at hl 1 rfl) ?_
    refine lv_iload C.x C.b dX3_laysOrder_73 (lv_at hl 0 rfl) ?_
    refine z_callS C hR hS hl (n := 4) (y := yX3_mixed) (bytes := cX3_mixed) (maxL := 9) (rt := (some .long)) (As := [.int v_6, .int v_8, .int v_10, .int v_12]) (rest := []) (lw_S q2083 q2084 q82 q2085) hdS_X3_mixed (by decide) rfl rfl (Nat.le_of_ble_eq_true rfl) dX3_laysOrder_75 h (fun r g_13 hk_ => ?_) (fun x g1 h => z_out C hQ h)
    clear h; obtain ⟨v_14, rfl, h⟩ := hk_
    show GW X E 19 g_13 78 [(8, .int v_12), (7, .int v_10), (6, .int v_8), (5, .int v_6), (4, .int v_4), (0, .ref a0), (2, .int x2), (3, .int x3)] [.long v_14]
    intro H locs ls hR hS hl
    refine lv_l2i C.x C.b dX3_laysOrder_78 rfl ?_
    refine lv_istore (lv' := [(9, .int v_14.toInt32), (8, .int v_12), (7, .int v_10), (6, .int v_8), (5, .int v_6), (4, .int v_4), (0, .ref a0), (2, .int x2), (3, .int x3)]) C.x C.b dX3_laysOrder_79 hl (by decide) rfl (fun ls hl => ?_)
    refine lv_iload_n C.x C.b dX3_laysOrder_81 rfl (lv_at hl 7 rfl) ?_
    refine lv_iload C.x C.b dX3_laysOrder_82 (lv_at hl 0 rfl) ?_
    obtain ⟨q1, h⟩ := h
    refine lv_irem C.x C.b dX3_laysOrder_84 q1 ?_
    refine lv_istore (lv' := [(10, .int (x2 - x2 / v_14.toInt32 * v_14.toInt32)), (9, .int v_14.toInt32), (8, .int v_12), (7, .int v_10), (6, .int v_8), (5, .int v_6), (4, .int v_4), (0, .ref a0), (2, .int x2), (3, .int x3)]) C.x C.b dX3_laysOrder_85 hl (by decide) rfl (fun ls hl => ?_)
    refine lv_iload_n C.x C.b dX3_laysOrder_87 rfl (lv_at hl 8 rfl) ?_
    refine lv_iload C.x C.b dX3_laysOrder_88 (lv_at hl 1 rfl) ?_
    obtain ⟨q1, h⟩ := h
    refine lv_idiv C.x C.b dX3_laysOrder_90 q1 ?_
    refine lv_istore_n (lv' := [(2, .int (x2 / v_14.toInt32)), (10, .int (x2 - x2 / v_14.toInt32 * v_14.toInt32)), (9, .int v_14.toInt32), (8, .int v_12), (7, .int v_10), (6, .int v_8), (5, .int v_6), (4, .int v_4), (0, .ref a0), (3, .int x3)]) C.x C.b dX3_laysOrder_91 rfl hl (by decide) rfl (fun ls hl => ?_)
    refine lv_iload_n C.x C.b dX3_laysOrder_92 rfl (lv_at hl 9 rfl) ?_
    refine lv_istore (lv' := [(11, .int x3), (2, .int (x2 / v_14.toInt32)), (10, .int (x2 - x2 / v_14.toInt32 * v_14.toInt32)), (9, .int v_14.toInt32), (8, .int v_12), (7, .int v_10), (6, .int v_8), (5, .int v_6), (4, .int v_4), (0, .ref a0), (3, .int x3)]) C.x C.b dX3_laysOrder_93 hl (by decide) rfl (fun ls hl => ?_)
    refine lv_iload_n C.x C.b dX3_laysOrder_95 rfl (lv_at hl 10 rfl) ?_
    refine lv_iload C.x C.b dX3_laysOrder_96 (lv_at hl 7 rfl) ?_
    refine lv_iadd C.x C.b dX3_laysOrder_98 ?_
    refine lv_istore (lv' := [(12, .int (x3 + v_6)), (11, .int x3), (2, .int (x2 / v_14.toInt32)), (10, .int (x2 - x2 / v_14.toInt32 * v_14.toInt32)), (9, .int v_14.toInt32), (8, .int v_12), (7, .int v_10), (6, .int v_8), (5, .int v_6), (4, .int v_4), (0, .ref a0), (3, .int x3)]) C.x C.b dX3_laysOrder_99 hl (by decide) rfl (fun ls hl => ?_)
    refine lv_iload C.x C.b dX3_laysOrder_101 (lv_at hl 0 rfl) ?_
    refine lv_iload C.x C.b dX3_laysOrder_103 (lv_at hl 7 rfl) ?_
    refine lv_iadd C.x C.b dX3_laysOrder_105 ?_
    refine lv_istore (lv' := [(13, .int ((x3 + v_6) + v_8)), (12, .int (x3 + v_6)), (11, .int x3), (2, .int (x2 / v_14.toInt32)), (10, .int (x2 - x2 / v_14.toInt32 * v_14.toInt32)), (9, .int v_14.toInt32), (8, .int v_12), (7, .int v_10), (6, .int v_8), (5, .int v_6), (4, .int v_4), (0, .ref a0), (3, .int x3)]) C.x C.b dX3_laysOrder_106 hl (by decide) rfl (fun ls hl => ?_)
    refine lv_iload C.x C.b dX3_laysOrder_108 (lv_at hl 0 rfl) ?_
    refine lv_iload C.x C.b dX3_laysOrder_110 (lv_at hl 7 rfl) ?_
    refine lv_iadd C.x C.b dX3_laysOrder_112 ?_
    refine lv_istore (lv' := [(14, .int (((x3 + v_6) + v_8) + v_10)), (13, .int ((x3 + v_6) + v_8)), (12, .int (x3 + v_6)), (11, .int x3), (2, .int (x2 / v_14.toInt32)), (10, .int (x2 - x2 / v_14.toInt32 * v_14.toInt32)), (9, .int v_14.toInt32), (8, .int v_12), (7, .int v_10), (6, .int v_8), (5, .int v_6), (4, .int v_4), (0, .ref a0), (3, .int x3)]) C.x C.b dX3_laysOrder_113 hl (by decide) rfl (fun ls hl => ?_)
    refine lv_iload_n C.x C.b dX3_laysOrder_115 rfl (lv_at hl 13 rfl) ?_
    refine lv_istore (lv' := [(15, .int x3), (14, .int (((x3 + v_6) + v_8) + v_10)), (13, .int ((x3 + v_6) + v_8)), (12, .int (x3 + v_6)), (11, .int x3), (2, .int (x2 / v_14.toInt32)), (10, .int (x2 - x2 / v_14.toInt32 * v_14.toInt32)), (9, .int v_14.toInt32), (8, .int v_12), (7, .int v_10), (6, .int v_8), (5, .int v_6), (4, .int v_4), (0, .ref a0), (3, .int x3)]) C.x C.b dX3_laysOrder_116 hl (by decide) rfl (fun ls hl => ?_)
    exact h H locs ls hR hS (lv_sub hl [13, 5, 12, 11, 10, 9, 8, 6, 4, 3, 2, 1, 0] rfl)
set_option maxHeartbeats 4000000 in
theorem bX3_laysOrder_118 {X : zX} {d : Nat} {E : zM} {K : Option Value → zG → Prop} {KX : String → zG → Prop} (C : zC X (d + 1) E RX3 cX3_laysOrder 19 none "laysOrder") (hQ : zQ X E K KX) (g : zG) (a0 : Nat) (x2 : Int32) (x4 : Int32) (x5 : Int32) (x6 : Int32) (x7 : Int32) (x8 : Int32) (x10 : Int32) (x11 : Int32) (x12 : Int32) (x13 : Int32) (x14 : Int32) (x15 : Int32) (h : (x4 ≤ x15 → GW X E 19 g 12 [(0, .ref a0), (2, .int x2), (3, .int x4)] []) ∧ (¬ x4 ≤ x15 → (¬ x5 = 0 → zCal X d yX3_mixed wX3_mixed [.int (x5 - 1), .int x6, .int x7, .int x8] g (fun r g_1 => ∃ v_2 : Int64, r = some (.long v_2) ∧ GW X E 19 g_1 148 [(0, .ref a0), (2, .int x2), (4, .int x4), (5, .int x5), (6, .int x6), (7, .int x7), (8, .int x8), (10, .int x10), (11, .int x11), (12, .int x12), (13, .int x13), (14, .int x14), (15, .int x15)] [.int v_2.toInt32]) KX) ∧ (x5 = 0 → GW X E 19 g 148 [(0, .ref a0), (2, .int x2), (4, .int x4), (5, .int x5), (6, .int x6), (7, .int x7), (8, .int x8), (10, .int x10), (11, .int x11), (12, .int x12), (13, .int x13), (14, .int x14), (15, .int x15)] [.int 0]))) : GW X E 19 g 118 [(0, .ref a0), (2, .int x2), (4, .int x4), (5, .int x5), (6, .int x6), (7, .int x7), (8, .int x8), (10, .int x10), (11, .int x11), (12, .int x12), (13, .int x13), (14, .int x14), (15, .int x15)] [] := by
  intro H locs ls hR hS hl
  refine lv_iload C.x C.b dX3_laysOrder_118 (lv_at hl 12 rfl) ?_
  refine lv_iload C.x C.b dX3_laysOrder_120 (lv_at hl 2 rfl) ?_
  obtain ⟨h1, h2⟩ := h
  refine lv_icmp_ge (tgt := 355) C.x C.b dX3_laysOrder_122 (by decide) (fun c => ?_) (fun c => ?_)
  · have h := h1 c; clear h1 h2
    refine lv_iload C.x C.b dX3_laysOrder_355 (lv_at hl 2 rfl) ?_
    refine lv_istore_n (lv' := [(3, .int x4), (0, .ref a0), (2, .int x2), (4, .int x4), (5, .int x5), (6, .int x6), (7, .int x7), (8, .int x8), (10, .int x10), (11, .int x11), (12, .int x12), (13, .int x13), (14, .int x14), (15, .int x15)]) C.x C.b dX3_laysOrder_357 rfl hl (by decide) rfl (fun ls hl => ?_)
    refine lv_goto (tgt := 12) C.x C.b dX3_laysOrder_358 (by decide) ?_
    exact h H locs ls hR hS (lv_sub hl [1, 2, 0] rfl)
  · have h := h2 c; clear h1 h2
    refine lv_iload C.x C.b dX3_laysOrder_125 (lv_at hl 3 rfl) ?_
    obtain ⟨h1, h2⟩ := h
    refine lv_if_ne (tgt := 134) C.x C.b dX3_laysOrder_127 (by decide) (fun c => ?_) (fun c => ?_)
    · have h := h1 c; clear h1 h2
      refine lv_iload C.x C.b dX3_laysOrder_134 (lv_at hl 3 rfl) ?_
      refine lv_iconst (v := 1) C.x C.b dX3_laysOrder_136 (by decide) ?_
      refine lv_isub C.x C.b dX3_laysOrder_137 ?_
      refine lv_iload C.x C.b dX3_laysOrder_138 (lv_at hl 4 rfl) ?_
      refine lv_iload C.x C.b dX3_laysOrder_140 (lv_at hl 5 rfl) ?_
      refine lv_iload C.x C.b dX3_laysOrder_142 (lv_at hl 6 rfl) ?_
      refine z_callS C hR hS hl (n := 4) (y := yX3_mixed) (bytes := cX3_mixed) (maxL := 9) (rt := (some .long)) (As := [.int (x5 - 1), .int x6, .int x7, .int x8]) (rest := []) (lw_S q2083 q2084 q82 q2085) hdS_X3_mixed (by decide) rfl rfl (Nat.le_of_ble_eq_true rfl) dX3_laysOrder_144 h (fun r g_1 hk_ => ?_) (fun x g1 h => z_out C hQ h)
      clear h; obtain ⟨v_2, rfl, h⟩ := hk_
      show GW X E 19 g_1 147 [(0, .ref a0), (2, .int x2), (4, .int x4), (5, .int x5), (6, .int x6), (7, .int x7), (8, .int x8), (10, .int x10), (11, .int x11), (12, .int x12), (13, .int x13), (14, .int x14), (15, .int x15)] [.long v_2]
      intro H locs ls hR hS hl
      refine lv_l2i C.x C.b dX3_laysOrder_147 rfl ?_
      exact h H locs ls hR hS (lv_sub hl [0, 1, 2, 3, 4, 5, 6, 7, 8, 9, 10, 11, 12] rfl)
    · have h := h2 c; clear h1 h2
      refine lv_iconst (v := 0) C.x C.b dX3_laysOrder_130 (by decide) ?_
      refine lv_goto (tgt := 148) C.x C.b dX3_laysOrder_131 (by decide) ?_
      exact h H locs ls hR hS (lv_sub hl [0, 1, 2, 3, 4, 5, 6, 7, 8, 9, 10, 11, 12] rfl)
set_option maxHeartbeats 4000000 in
theorem bX3_laysOrder_148 {X : zX} {d : Nat} {E : zM} {K : Option Value → zG → Prop} {KX : String → zG → Prop} (C : zC X (d + 1) E RX3 cX3_laysOrder 19 none "laysOrder") (hQ : zQ X E K KX) (g : zG) (a0 : Nat) (x2 : Int32) (x4 : Int32) (x5 : Int32) (x6 : Int32) (x7 : Int32) (x8 : Int32) (x10 : Int32) (x11 : Int32) (x12 : Int32) (x13 : Int32) (x14 : Int32) (x15 : Int32) (t0 : Int32) (h : (¬ x6 = 0 → zCal X d yX3_mixed wX3_mixed [.int x5, .int (x6 - 1), .int x7, .int x8] g (fun r g_1 => ∃ v_2 : Int64, r = some (.long v_2) ∧ GW X E 19 g_1 173 [(0, .ref a0), (2, .int x2), (4, .int x4), (5, .int x5), (6, .int x6), (7, .int x7), (8, .int x8), (10, .int x10), (11, .int x11), (12, .int x12), (13, .int x13), (14, .int x14), (15, .int x15), (16, .int t0)] [.int v_2.toInt32]) KX) ∧ (x6 = 0 → GW X E 19 g 173 [(0, .ref a0), (2, .int x2), (4, .int x4), (5, .int x5), (6, .int x6), (7, .int x7), (8, .int x8), (10, .int x10), (11, .int x11), (12, .int x12), (13, .int x13), (14, .int x14), (15, .int x15), (16, .int t0)] [.int 0])) : GW X E 19 g 148 [(0, .ref a0), (2, .int x2), (4, .int x4), (5, .int x5), (6, .int x6), (7, .int x7), (8, .int x8), (10, .int x10), (11, .int x11), (12, .int x12), (13, .int x13), (14, .int x14), (15, .int x15)] [.int t0] := by
  intro H locs ls hR hS hl
  refine lv_istore (lv' := [(16, .int t0), (0, .ref a0), (2, .int x2), (4, .int x4), (5, .int x5), (6, .int x6), (7, .int x7), (8, .int x8), (10, .int x10), (11, .int x11), (12, .int x12), (13, .int x13), (14, .int x14), (15, .int x15)]) C.x C.b dX3_laysOrder_148 hl (by decide) rfl (fun ls hl => ?_)
  refine lv_iload C.x C.b dX3_laysOrder_150 (lv_at hl 5 rfl) ?_
  obtain ⟨h1, h2⟩ := h
  refine lv_if_ne (tgt := 159) C.x C.b dX3_laysOrder_152 (by decide) (fun c => ?_) (fun c => ?_)
  · have h := h1 c; clear h1 h2
    refine lv_iload C.x C.b dX3_laysOrder_159 (lv_at hl 4 rfl) ?_
    refine lv_iload C.x C.b dX3_laysOrder_161 (lv_at hl 5 rfl) ?_
    refine lv_iconst (v := 1) C.x C.b dX3_laysOrder_163 (by decide) ?_
    refine lv_isub C.x C.b dX3_laysOrder_164 ?_
    refine lv_iload C.x C.b dX3_laysOrder_165 (lv_at hl 6 rfl) ?_
    refine lv_iload C.x C.b dX3_laysOrder_167 (lv_at hl 7 rfl) ?_
    refine z_callS C hR hS hl (n := 4) (y := yX3_mixed) (bytes := cX3_mixed) (maxL := 9) (rt := (some .long)) (As := [.int x5, .int (x6 - 1), .int x7, .int x8]) (rest := []) (lw_S q2083 q2084 q82 q2085) hdS_X3_mixed (by decide) rfl rfl (Nat.le_of_ble_eq_true rfl) dX3_laysOrder_169 h (fun r g_1 hk_ => ?_) (fun x g1 h => z_out C hQ h)
    clear h; obtain ⟨v_2, rfl, h⟩ := hk_
    show GW X E 19 g_1 172 [(16, .int t0), (0, .ref a0), (2, .int x2), (4, .int x4), (5, .int x5), (6, .int x6), (7, .int x7), (8, .int x8), (10, .int x10), (11, .int x11), (12, .int x12), (13, .int x13), (14, .int x14), (15, .int x15)] [.long v_2]
    intro H locs ls hR hS hl
    refine lv_l2i C.x C.b dX3_laysOrder_172 rfl ?_
    exact h H locs ls hR hS (lv_sub hl [1, 2, 3, 4, 5, 6, 7, 8, 9, 10, 11, 12, 13, 0] rfl)
  · have h := h2 c; clear h1 h2
    refine lv_iconst (v := 0) C.x C.b dX3_laysOrder_155 (by decide) ?_
    refine lv_goto (tgt := 173) C.x C.b dX3_laysOrder_156 (by decide) ?_
    exact h H locs ls hR hS (lv_sub hl [1, 2, 3, 4, 5, 6, 7, 8, 9, 10, 11, 12, 13, 0] rfl)
set_option maxHeartbeats 4000000 in
theorem bX3_laysOrder_173 {X : zX} {d : Nat} {E : zM} {K : Option Value → zG → Prop} {KX : String → zG → Prop} (C : zC X (d + 1) E RX3 cX3_laysOrder 19 none "laysOrder") (hQ : zQ X E K KX) (g : zG) (a0 : Nat) (x2 : Int32) (x4 : Int32) (x5 : Int32) (x6 : Int32) (x7 : Int32) (x8 : Int32) (x10 : Int32) (x11 : Int32) (x12 : Int32) (x13 : Int32) (x14 : Int32) (x15 : Int32) (x16 : Int32) (t0 : Int32) (h : (¬ x7 = 0 → zCal X d yX3_mixed wX3_mixed [.int x5, .int x6, .int (x7 - 1), .int x8] g (fun r g_1 => ∃ v_2 : Int64, r = some (.long v_2) ∧ GW X E 19 g_1 198 [(0, .ref a0), (2, .int x2), (4, .int x4), (5, .int x5), (6, .int x6), (7, .int x7), (8, .int x8), (10, .int x10), (11, .int x11), (12, .int x12), (13, .int x13), (14, .int x14), (15, .int x15), (16, .int x16), (17, .int t0)] [.int v_2.toInt32]) KX) ∧ (x7 = 0 → GW X E 19 g 198 [(0, .ref a0), (2, .int x2), (4, .int x4), (5, .int x5), (6, .int x6), (7, .int x7), (8, .int x8), (10, .int x10), (11, .int x11), (12, .int x12), (13, .int x13), (14, .int x14), (15, .int x15), (16, .int x16), (17, .int t0)] [.int 0])) : GW X E 19 g 173 [(0, .ref a0), (2, .int x2), (4, .int x4), (5, .int x5), (6, .int x6), (7, .int x7), (8, .int x8), (10, .int x10), (11, .int x11), (12, .int x12), (13, .int x13), (14, .int x14), (15, .int x15), (16, .int x16)] [.int t0] := by
  intro H locs ls hR hS hl
  refine lv_istore (lv' := [(17, .int t0), (0, .ref a0), (2, .int x2), (4, .int x4), (5, .int x5), (6, .int x6), (7, .int x7), (8, .int x8), (10, .int x10), (11, .int x11), (12, .int x12), (13, .int x13), (14, .int x14), (15, .int x15), (16, .int x16)]) C.x C.b dX3_laysOrder_173 hl (by decide) rfl (fun ls hl => ?_)
  refine lv_iload C.x C.b dX3_laysOrder_175 (lv_at hl 6 rfl) ?_
  obtain ⟨h1, h2⟩ := h
  refine lv_if_ne (tgt := 184) C.x C.b dX3_laysOrder_177 (by decide) (fun c => ?_) (fun c => ?_)
  · have h := h1 c; clear h1 h2
    refine lv_iload C.x C.b dX3_laysOrder_184 (lv_at hl 4 rfl) ?_
    refine lv_iload C.x C.b dX3_laysOrder_186 (lv_at hl 5 rfl) ?_
    refine lv_iload C.x C.b dX3_laysOrder_188 (lv_at hl 6 rfl) ?_
    refine lv_iconst (v := 1) C.x C.b dX3_laysOrder_190 (by decide) ?_
    refine lv_isub C.x C.b dX3_laysOrder_191 ?_
    refine lv_iload C.x C.b dX3_laysOrder_192 (lv_at hl 7 rfl) ?_
    refine z_callS C hR hS hl (n := 4) (y := yX3_mixed) (bytes := cX3_mixed) (maxL := 9) (rt := (some .long)) (As := [.int x5, .int x6, .int (x7 - 1), .int x8]) (rest := []) (lw_S q2083 q2084 q82 q2085) hdS_X3_mixed (by decide) rfl rfl (Nat.le_of_ble_eq_true rfl) dX3_laysOrder_194 h (fun r g_1 hk_ => ?_) (fun x g1 h => z_out C hQ h)
    clear h; obtain ⟨v_2, rfl, h⟩ := hk_
    show GW X E 19 g_1 197 [(17, .int t0), (0, .ref a0), (2, .int x2), (4, .int x4), (5, .int x5), (6, .int x6), (7, .int x7), (8, .int x8), (10, .int x10), (11, .int x11), (12, .int x12), (13, .int x13), (14, .int x14), (15, .int x15), (16, .int x16)] [.long v_2]
    intro H locs ls hR hS hl
    refine lv_l2i C.x C.b dX3_laysOrder_197 rfl ?_
    exact h H locs ls hR hS (lv_sub hl [1, 2, 3, 4, 5, 6, 7, 8, 9, 10, 11, 12, 13, 14, 0] rfl)
  · have h := h2 c; clear h1 h2
    refine lv_iconst (v := 0) C.x C.b dX3_laysOrder_180 (by decide) ?_
    refine lv_goto (tgt := 198) C.x C.b dX3_laysOrder_181 (by decide) ?_
    exact h H locs ls hR hS (lv_sub hl [1, 2, 3, 4, 5, 6, 7, 8, 9, 10, 11, 12, 13, 14, 0] rfl)
set_option maxHeartbeats 4000000 in
theorem bX3_laysOrder_198 {X : zX} {d : Nat} {E : zM} {K : Option Value → zG → Prop} {KX : String → zG → Prop} (C : zC X (d + 1) E RX3 cX3_laysOrder 19 none "laysOrder") (hQ : zQ X E K KX) (g : zG) (a0 : Nat) (x2 : Int32) (x4 : Int32) (x5 : Int32) (x6 : Int32) (x7 : Int32) (x8 : Int32) (x10 : Int32) (x11 : Int32) (x12 : Int32) (x13 : Int32) (x14 : Int32) (x15 : Int32) (x16 : Int32) (x17 : Int32) (t0 : Int32) (h : (x16 ≤ x10 → ((x16 + x17) ≤ x10 → (((x16 + x17) + t0) ≤ x10 → ∃ (fs_1 : List Value) (a_2 : Nat), zGo g 3 a0 = some fs_1 ∧ fs_1[30]? = some (.ref a_2) ∧ ∃ (fs_3 : List Value) (a_4 : Nat), zGo g 3 a0 = some fs_3 ∧ fs_3[12]? = some (.ref a_4) ∧ ∃ (n_5 : Nat) (f_6 : Nat → Int32), zGi g 12 a_4 = some (n_5, f_6) ∧ vp_in x14 n_5 ∧ ∀ v_7 : Int32, v_7 = f_6 x14.toNatClampNeg → ∃ (n_8 : Nat) (f_9 : Nat → Int32), zGi g 30 a_2 = some (n_8, f_9) ∧ vp_in x15 n_8 ∧ ∀ g_10 : zG, g_10 = zSi g 30 a_2 n_8 (upd f_9 x15.toNatClampNeg v_7) → GW X E 19 g_10 118 [(0, .ref a0), (2, .int x2), (4, .int x4), (5, .int x5), (6, .int x6), (7, .int x7), (8, .int (x8 + (-1))), (10, .int (x10 - ((x16 + x17) + t0))), (11, .int x11), (12, .int x12), (13, .int x13), (14, .int (x14 + 1)), (15, .int (x15 + 1))] []) ∧ (¬ ((x16 + x17) + t0) ≤ x10 → ∃ (fs_11 : List Value) (a_12 : Nat), zGo g 3 a0 = some fs_11 ∧ fs_11[30]? = some (.ref a_12) ∧ ∃ (fs_13 : List Value) (a_14 : Nat), zGo g 3 a0 = some fs_13 ∧ fs_13[12]? = some (.ref a_14) ∧ ∃ (n_15 : Nat) (f_16 : Nat → Int32), zGi g 12 a_14 = some (n_15, f_16) ∧ vp_in x13 n_15 ∧ ∀ v_17 : Int32, v_17 = f_16 x13.toNatClampNeg → ∃ (n_18 : Nat) (f_19 : Nat → Int32), zGi g 30 a_12 = some (n_18, f_19) ∧ vp_in x15 n_18 ∧ ∀ g_20 : zG, g_20 = zSi g 30 a_12 n_18 (upd f_19 x15.toNatClampNeg v_17) → GW X E 19 g_20 118 [(0, .ref a0), (2, .int x2), (4, .int x4), (5, .int x5), (6, .int x6), (7, .int (x7 + (-1))), (8, .int x8), (10, .int (x10 - (x16 + x17))), (11, .int x11), (12, .int x12), (13, .int (x13 + 1)), (14, .int x14), (15, .int (x15 + 1))] [])) ∧ (¬ (x16 + x17) ≤ x10 → ∃ (fs_21 : List Value) (a_22 : Nat), zGo g 3 a0 = some fs_21 ∧ fs_21[30]? = some (.ref a_22) ∧ ∃ (fs_23 : List Value) (a_24 : Nat), zGo g 3 a0 = some fs_23 ∧ fs_23[12]? = some (.ref a_24) ∧ ∃ (n_25 : Nat) (f_26 : Nat → Int32), zGi g 12 a_24 = some (n_25, f_26) ∧ vp_in x12 n_25 ∧ ∀ v_27 : Int32, v_27 = f_26 x12.toNatClampNeg → ∃ (n_28 : Nat) (f_29 : Nat → Int32), zGi g 30 a_22 = some (n_28, f_29) ∧ vp_in x15 n_28 ∧ ∀ g_30 : zG, g_30 = zSi g 30 a_22 n_28 (upd f_29 x15.toNatClampNeg v_27) → GW X E 19 g_30 118 [(0, .ref a0), (2, .int x2), (4, .int x4), (5, .int x5), (6, .int (x6 + (-1))), (7, .int x7), (8, .int x8), (10, .int (x10 - x16)), (11, .int x11), (12, .int (x12 + 1)), (13, .int x13), (14, .int x14), (15, .int (x15 + 1))] [])) ∧ (¬ x16 ≤ x10 → ∃ (fs_31 : List Value) (a_32 : Nat), zGo g 3 a0 = some fs_31 ∧ fs_31[30]? = some (.ref a_32) ∧ ∃ (fs_33 : List Value) (a_34 : Nat), zGo g 3 a0 = some fs_33 ∧ fs_33[12]? = some (.ref a_34) ∧ ∃ (n_35 : Nat) (f_36 : Nat → Int32), zGi g 12 a_34 = some (n_35, f_36) ∧ vp_in x11 n_35 ∧ ∀ v_37 : Int32, v_37 = f_36 x11.toNatClampNeg → ∃ (n_38 : Nat) (f_39 : Nat → Int32), zGi g 30 a_32 = some (n_38, f_39) ∧ vp_in x15 n_38 ∧ ∀ g_40 : zG, g_40 = zSi g 30 a_32 n_38 (upd f_39 x15.toNatClampNeg v_37) → GW X E 19 g_40 118 [(0, .ref a0), (2, .int x2), (4, .int x4), (5, .int (x5 + (-1))), (6, .int x6), (7, .int x7), (8, .int x8), (10, .int x10), (11, .int (x11 + 1)), (12, .int x12), (13, .int x13), (14, .int x14), (15, .int (x15 + 1))] [])) : GW X E 19 g 198 [(0, .ref a0), (2, .int x2), (4, .int x4), (5, .int x5), (6, .int x6), (7, .int x7), (8, .int x8), (10, .int x10), (11, .int x11), (12, .int x12), (13, .int x13), (14, .int x14), (15, .int x15), (16, .int x16), (17, .int x17)] [.int t0] := by
  intro H locs ls hR hS hl
  refine lv_istore (lv' := [(18, .int t0), (0, .ref a0), (2, .int x2), (4, .int x4), (5, .int x5), (6, .int x6), (7, .int x7), (8, .int x8), (10, .int x10), (11, .int x11), (12, .int x12), (13, .int x13), (14, .int x14), (15, .int x15), (16, .int x16), (17, .int x17)]) C.x C.b dX3_laysOrder_198 hl (by decide) rfl (fun ls hl => ?_)
  refine lv_iload C.x C.b dX3_laysOrder_200 (lv_at hl 8 rfl) ?_
  refine lv_iload C.x C.b dX3_laysOrder_202 (lv_at hl 14 rfl) ?_
  obtain ⟨h1, h2⟩ := h
  refine lv_icmp_ge (tgt := 230) C.x C.b dX3_laysOrder_204 (by decide) (fun c => ?_) (fun c => ?_)
  · have h := h1 c; clear h1 h2
    refine lv_iload C.x C.b dX3_laysOrder_230 (lv_at hl 8 rfl) ?_
    refine lv_iload C.x C.b dX3_laysOrder_232 (lv_at hl 14 rfl) ?_
    refine lv_iload C.x C.b dX3_laysOrder_234 (lv_at hl 15 rfl) ?_
    refine lv_iadd C.x C.b dX3_laysOrder_236 ?_
    obtain ⟨h1, h2⟩ := h
    refine lv_icmp_ge (tgt := 270) C.x C.b dX3_laysOrder_237 (by decide) (fun c => ?_) (fun c => ?_)
    · have h := h1 c; clear h1 h2
      refine lv_iload C.x C.b dX3_laysOrder_270 (lv_at hl 8 rfl) ?_
      refine lv_iload C.x C.b dX3_laysOrder_272 (lv_at hl 14 rfl) ?_
      refine lv_iload C.x C.b dX3_laysOrder_274 (lv_at hl 15 rfl) ?_
      refine lv_iadd C.x C.b dX3_laysOrder_276 ?_
      refine lv_iload C.x C.b dX3_laysOrder_277 (lv_at hl 0 rfl) ?_
      refine lv_iadd C.x C.b dX3_laysOrder_279 ?_
      obtain ⟨h1, h2⟩ := h
      refine lv_icmp_ge (tgt := 316) C.x C.b dX3_laysOrder_280 (by decide) (fun c => ?_) (fun c => ?_)
      · have h := h1 c; clear h1 h2
        refine lv_iload C.x C.b dX3_laysOrder_316 (lv_at hl 8 rfl) ?_
        refine lv_iload C.x C.b dX3_laysOrder_318 (lv_at hl 14 rfl) ?_
        refine lv_iload C.x C.b dX3_laysOrder_320 (lv_at hl 15 rfl) ?_
        refine lv_iadd C.x C.b dX3_laysOrder_322 ?_
        refine lv_iload C.x C.b dX3_laysOrder_323 (lv_at hl 0 rfl) ?_
        refine lv_iadd C.x C.b dX3_laysOrder_325 ?_
        refine lv_isub C.x C.b dX3_laysOrder_326 ?_
        refine lv_istore (lv' := [(10, .int (x10 - ((x16 + x17) + t0))), (18, .int t0), (0, .ref a0), (2, .int x2), (4, .int x4), (5, .int x5), (6, .int x6), (7, .int x7), (8, .int x8), (11, .int x11), (12, .int x12), (13, .int x13), (14, .int x14), (15, .int x15), (16, .int x16), (17, .int x17)]) C.x C.b dX3_laysOrder_327 hl (by decide) rfl (fun ls hl => ?_)
        refine lv_aload_n C.x C.b dX3_laysOrder_329 rfl (lv_at hl 2 rfl) ?_
        obtain ⟨fs_1, a_2, q1, q2, h⟩ := h
        refine z_get C hR q1 rfl (ci := 3) rfl in_X3 30 (by decide) q1667 (fun _ h => h) q2 dX3_laysOrder_330 ?_
        refine lv_iload C.x C.b dX3_laysOrder_333 (lv_at hl 13 rfl) ?_
        refine lv_aload_n C.x C.b dX3_laysOrder_335 rfl (lv_at hl 2 rfl) ?_
        obtain ⟨fs_3, a_4, q1, q2, h⟩ := h
        refine z_get C hR q1 rfl (ci := 3) rfl in_X3 12 (by decide) q1649 (fun _ h => h) q2 dX3_laysOrder_336 ?_
        refine lv_iload C.x C.b dX3_laysOrder_339 (lv_at hl 12 rfl) ?_
        obtain ⟨n_5, f_6, q1, q2, h⟩ := h
        refine z_iald C hR q1 (by decide) q2 dX3_laysOrder_341 ?_
        have h := h _ rfl
        generalize f_6 x14.toNatClampNeg = v_7 at h ⊢
        obtain ⟨n_8, f_9, q1, q2, h⟩ := h
        refine z_iast C hR hS q1 (by decide) q2 dX3_laysOrder_342 (fun H locs hR hS => ?_)
        have h := h _ rfl
        generalize zSi g 30 a_2 n_8 (upd f_9 x15.toNatClampNeg v_7) = g_10 at h hR
        refine lv_iinc (v := x14 + 1) (lv' := [(14, .int (x14 + 1)), (10, .int (x10 - ((x16 + x17) + t0))), (18, .int t0), (0, .ref a0), (2, .int x2), (4, .int x4), (5, .int x5), (6, .int x6), (7, .int x7), (8, .int x8), (11, .int x11), (12, .int x12), (13, .int x13), (15, .int x15), (16, .int x16), (17, .int x17)]) C.x C.b dX3_laysOrder_343 hl (k := 12) rfl rfl (by decide) rfl (fun ls hl => ?_)
        refine lv_iinc (v := x8 + (-1)) (lv' := [(8, .int (x8 + (-1))), (14, .int (x14 + 1)), (10, .int (x10 - ((x16 + x17) + t0))), (18, .int t0), (0, .ref a0), (2, .int x2), (4, .int x4), (5, .int x5), (6, .int x6), (7, .int x7), (11, .int x11), (12, .int x12), (13, .int x13), (15, .int x15), (16, .int x16), (17, .int x17)]) C.x C.b dX3_laysOrder_346 hl (k := 9) rfl rfl (by decide) rfl (fun ls hl => ?_)
        refine lv_iinc (v := x15 + 1) (lv' := [(15, .int (x15 + 1)), (8, .int (x8 + (-1))), (14, .int (x14 + 1)), (10, .int (x10 - ((x16 + x17) + t0))), (18, .int t0), (0, .ref a0), (2, .int x2), (4, .int x4), (5, .int x5), (6, .int x6), (7, .int x7), (11, .int x11), (12, .int x12), (13, .int x13), (16, .int x16), (17, .int x17)]) C.x C.b dX3_laysOrder_349 hl (k := 13) rfl rfl (by decide) rfl (fun ls hl => ?_)
        refine lv_goto (tgt := 118) C.x C.b dX3_laysOrder_352 (by decide) ?_
        exact h H locs ls hR hS (lv_sub hl [5, 6, 7, 8, 9, 10, 1, 3, 11, 12, 13, 2, 0] rfl)
      · have h := h2 c; clear h1 h2
        refine lv_iload C.x C.b dX3_laysOrder_283 (lv_at hl 8 rfl) ?_
        refine lv_iload C.x C.b dX3_laysOrder_285 (lv_at hl 14 rfl) ?_
        refine lv_iload C.x C.b dX3_laysOrder_287 (lv_at hl 15 rfl) ?_
        refine lv_iadd C.x C.b dX3_laysOrder_289 ?_
        refine lv_isub C.x C.b dX3_laysOrder_290 ?_
        refine lv_istore (lv' := [(10, .int (x10 - (x16 + x17))), (18, .int t0), (0, .ref a0), (2, .int x2), (4, .int x4), (5, .int x5), (6, .int x6), (7, .int x7), (8, .int x8), (11, .int x11), (12, .int x12), (13, .int x13), (14, .int x14), (15, .int x15), (16, .int x16), (17, .int x17)]) C.x C.b dX3_laysOrder_291 hl (by decide) rfl (fun ls hl => ?_)
        refine lv_aload_n C.x C.b dX3_laysOrder_293 rfl (lv_at hl 2 rfl) ?_
        obtain ⟨fs_11, a_12, q1, q2, h⟩ := h
        refine z_get C hR q1 rfl (ci := 3) rfl in_X3 30 (by decide) q1667 (fun _ h => h) q2 dX3_laysOrder_294 ?_
        refine lv_iload C.x C.b dX3_laysOrder_297 (lv_at hl 13 rfl) ?_
        refine lv_aload_n C.x C.b dX3_laysOrder_299 rfl (lv_at hl 2 rfl) ?_
        obtain ⟨fs_13, a_14, q1, q2, h⟩ := h
        refine z_get C hR q1 rfl (ci := 3) rfl in_X3 12 (by decide) q1649 (fun _ h => h) q2 dX3_laysOrder_300 ?_
        refine lv_iload C.x C.b dX3_laysOrder_303 (lv_at hl 11 rfl) ?_
        obtain ⟨n_15, f_16, q1, q2, h⟩ := h
        refine z_iald C hR q1 (by decide) q2 dX3_laysOrder_305 ?_
        have h := h _ rfl
        generalize f_16 x13.toNatClampNeg = v_17 at h ⊢
        obtain ⟨n_18, f_19, q1, q2, h⟩ := h
        refine z_iast C hR hS q1 (by decide) q2 dX3_laysOrder_306 (fun H locs hR hS => ?_)
        have h := h _ rfl
        generalize zSi g 30 a_12 n_18 (upd f_19 x15.toNatClampNeg v_17) = g_20 at h hR
        refine lv_iinc (v := x13 + 1) (lv' := [(13, .int (x13 + 1)), (10, .int (x10 - (x16 + x17))), (18, .int t0), (0, .ref a0), (2, .int x2), (4, .int x4), (5, .int x5), (6, .int x6), (7, .int x7), (8, .int x8), (11, .int x11), (12, .int x12), (14, .int x14), (15, .int x15), (16, .int x16), (17, .int x17)]) C.x C.b dX3_laysOrder_307 hl (k := 11) rfl rfl (by decide) rfl (fun ls hl => ?_)
        refine lv_iinc (v := x7 + (-1)) (lv' := [(7, .int (x7 + (-1))), (13, .int (x13 + 1)), (10, .int (x10 - (x16 + x17))), (18, .int t0), (0, .ref a0), (2, .int x2), (4, .int x4), (5, .int x5), (6, .int x6), (8, .int x8), (11, .int x11), (12, .int x12), (14, .int x14), (15, .int x15), (16, .int x16), (17, .int x17)]) C.x C.b dX3_laysOrder_310 hl (k := 8) rfl rfl (by decide) rfl (fun ls hl => ?_)
        refine lv_goto (tgt := 349) C.x C.b dX3_laysOrder_313 (by decide) ?_
        refine lv_iinc (v := x15 + 1) (lv' := [(15, .int (x15 + 1)), (7, .int (x7 + (-1))), (13, .int (x13 + 1)), (10, .int (x10 - (x16 + x17))), (18, .int t0), (0, .ref a0), (2, .int x2), (4, .int x4), (5, .int x5), (6, .int x6), (8, .int x8), (11, .int x11), (12, .int x12), (14, .int x14), (16, .int x16), (17, .int x17)]) C.x C.b dX3_laysOrder_349 hl (k := 13) rfl rfl (by decide) rfl (fun ls hl => ?_)
        refine lv_goto (tgt := 118) C.x C.b dX3_laysOrder_352 (by decide) ?_
        exact h H locs ls hR hS (lv_sub hl [5, 6, 7, 8, 9, 1, 10, 3, 11, 12, 2, 13, 0] rfl)
    · have h := h2 c; clear h1 h2
      refine lv_iload C.x C.b dX3_laysOrder_240 (lv_at hl 8 rfl) ?_
      refine lv_iload C.x C.b dX3_laysOrder_242 (lv_at hl 14 rfl) ?_
      refine lv_isub C.x C.b dX3_laysOrder_244 ?_
      refine lv_istore (lv' := [(10, .int (x10 - x16)), (18, .int t0), (0, .ref a0), (2, .int x2), (4, .int x4), (5, .int x5), (6, .int x6), (7, .int x7), (8, .int x8), (11, .int x11), (12, .int x12), (13, .int x13), (14, .int x14), (15, .int x15), (16, .int x16), (17, .int x17)]) C.x C.b dX3_laysOrder_245 hl (by decide) rfl (fun ls hl => ?_)
      refine lv_aload_n C.x C.b dX3_laysOrder_247 rfl (lv_at hl 2 rfl) ?_
      obtain ⟨fs_21, a_22, q1, q2, h⟩ := h
      refine z_get C hR q1 rfl (ci := 3) rfl in_X3 30 (by decide) q1667 (fun _ h => h) q2 dX3_laysOrder_248 ?_
      refine lv_iload C.x C.b dX3_laysOrder_251 (lv_at hl 13 rfl) ?_
      refine lv_aload_n C.x C.b dX3_laysOrder_253 rfl (lv_at hl 2 rfl) ?_
      obtain ⟨fs_23, a_24, q1, q2, h⟩ := h
      refine z_get C hR q1 rfl (ci := 3) rfl in_X3 12 (by decide) q1649 (fun _ h => h) q2 dX3_laysOrder_254 ?_
      refine lv_iload C.x C.b dX3_laysOrder_257 (lv_at hl 10 rfl) ?_
      obtain ⟨n_25, f_26, q1, q2, h⟩ := h
      refine z_iald C hR q1 (by decide) q2 dX3_laysOrder_259 ?_
      have h := h _ rfl
      generalize f_26 x12.toNatClampNeg = v_27 at h ⊢
      obtain ⟨n_28, f_29, q1, q2, h⟩ := h
      refine z_iast C hR hS q1 (by decide) q2 dX3_laysOrder_260 (fun H locs hR hS => ?_)
      have h := h _ rfl
      generalize zSi g 30 a_22 n_28 (upd f_29 x15.toNatClampNeg v_27) = g_30 at h hR
      refine lv_iinc (v := x12 + 1) (lv' := [(12, .int (x12 + 1)), (10, .int (x10 - x16)), (18, .int t0), (0, .ref a0), (2, .int x2), (4, .int x4), (5, .int x5), (6, .int x6), (7, .int x7), (8, .int x8), (11, .int x11), (13, .int x13), (14, .int x14), (15, .int x15), (16, .int x16), (17, .int x17)]) C.x C.b dX3_laysOrder_261 hl (k := 10) rfl rfl (by decide) rfl (fun ls hl => ?_)
      refine lv_iinc (v := x6 + (-1)) (lv' := [(6, .int (x6 + (-1))), (12, .int (x12 + 1)), (10, .int (x10 - x16)), (18, .int t0), (0, .ref a0), (2, .int x2), (4, .int x4), (5, .int x5), (7, .int x7), (8, .int x8), (11, .int x11), (13, .int x13), (14, .int x14), (15, .int x15), (16, .int x16), (17, .int x17)]) C.x C.b dX3_laysOrder_264 hl (k := 7) rfl rfl (by decide) rfl (fun ls hl => ?_)
      refine lv_goto (tgt := 349) C.x C.b dX3_laysOrder_267 (by decide) ?_
      refine lv_iinc (v := x15 + 1) (lv' := [(15, .int (x15 + 1)), (6, .int (x6 + (-1))), (12, .int (x12 + 1)), (10, .int (x10 - x16)), (18, .int t0), (0, .ref a0), (2, .int x2), (4, .int x4), (5, .int x5), (7, .int x7), (8, .int x8), (11, .int x11), (13, .int x13), (14, .int x14), (16, .int x16), (17, .int x17)]) C.x C.b dX3_laysOrder_349 hl (k := 13) rfl rfl (by decide) rfl (fun ls hl => ?_)
      refine lv_goto (tgt := 118) C.x C.b dX3_laysOrder_352 (by decide) ?_
      exact h H locs ls hR hS (lv_sub hl [5, 6, 7, 8, 1, 9, 10, 3, 11, 2, 12, 13, 0] rfl)
  · have h := h2 c; clear h1 h2
    refine lv_aload_n C.x C.b dX3_laysOrder_207 rfl (lv_at hl 1 rfl) ?_
    obtain ⟨fs_31, a_32, q1, q2, h⟩ := h
    refine z_get C hR q1 rfl (ci := 3) rfl in_X3 30 (by decide) q1667 (fun _ h => h) q2 dX3_laysOrder_208 ?_
    refine lv_iload C.x C.b dX3_laysOrder_211 (lv_at hl 13 rfl) ?_
    refine lv_aload_n C.x C.b dX3_laysOrder_213 rfl (lv_at hl 1 rfl) ?_
    obtain ⟨fs_33, a_34, q1, q2, h⟩ := h
    refine z_get C hR q1 rfl (ci := 3) rfl in_X3 12 (by decide) q1649 (fun _ h => h) q2 dX3_laysOrder_214 ?_
    refine lv_iload C.x C.b dX3_laysOrder_217 (lv_at hl 9 rfl) ?_
    obtain ⟨n_35, f_36, q1, q2, h⟩ := h
    refine z_iald C hR q1 (by decide) q2 dX3_laysOrder_219 ?_
    have h := h _ rfl
    generalize f_36 x11.toNatClampNeg = v_37 at h ⊢
    obtain ⟨n_38, f_39, q1, q2, h⟩ := h
    refine z_iast C hR hS q1 (by decide) q2 dX3_laysOrder_220 (fun H locs hR hS => ?_)
    have h := h _ rfl
    generalize zSi g 30 a_32 n_38 (upd f_39 x15.toNatClampNeg v_37) = g_40 at h hR
    refine lv_iinc (v := x11 + 1) (lv' := [(11, .int (x11 + 1)), (18, .int t0), (0, .ref a0), (2, .int x2), (4, .int x4), (5, .int x5), (6, .int x6), (7, .int x7), (8, .int x8), (10, .int x10), (12, .int x12), (13, .int x13), (14, .int x14), (15, .int x15), (16, .int x16), (17, .int x17)]) C.x C.b dX3_laysOrder_221 hl (k := 9) rfl rfl (by decide) rfl (fun ls hl => ?_)
    refine lv_iinc (v := x5 + (-1)) (lv' := [(5, .int (x5 + (-1))), (11, .int (x11 + 1)), (18, .int t0), (0, .ref a0), (2, .int x2), (4, .int x4), (6, .int x6), (7, .int x7), (8, .int x8), (10, .int x10), (12, .int x12), (13, .int x13), (14, .int x14), (15, .int x15), (16, .int x16), (17, .int x17)]) C.x C.b dX3_laysOrder_224 hl (k := 5) rfl rfl (by decide) rfl (fun ls hl => ?_)
    refine lv_goto (tgt := 349) C.x C.b dX3_laysOrder_227 (by decide) ?_
    refine lv_iinc (v := x15 + 1) (lv' := [(15, .int (x15 + 1)), (5, .int (x5 + (-1))), (11, .int (x11 + 1)), (18, .int t0), (0, .ref a0), (2, .int x2), (4, .int x4), (6, .int x6), (7, .int x7), (8, .int x8), (10, .int x10), (12, .int x12), (13, .int x13), (14, .int x14), (16, .int x16), (17, .int x17)]) C.x C.b dX3_laysOrder_349 hl (k := 13) rfl rfl (by decide) rfl (fun ls hl => ?_)
    refine lv_goto (tgt := 118) C.x C.b dX3_laysOrder_352 (by decide) ?_
    exact h H locs ls hR hS (lv_sub hl [4, 5, 6, 1, 7, 8, 9, 10, 2, 11, 12, 13, 0] rfl)
set_option maxHeartbeats 4000000 in
theorem mX3_laysOrder {X : zX} {d : Nat} {g : zG} {K : Option Value → zG → Prop} {KX : String → zG → Prop} (hok : zOk X) (a0 : Nat) (x1 : Int32) (h : ∀ E : zM, zC X (d + 1) E RX3 cX3_laysOrder 19 none "laysOrder" → zQ X E K KX → ∃ (fs_1 : List Value) (v_2 : Int32), zGo g 3 a0 = some fs_1 ∧ fs_1[3]? = some (.int v_2) ∧ ∃ (fs_3 : List Value), zGo g 3 a0 = some fs_3 ∧ 29 < fs_3.length ∧ ∀ g_4 : zG, g_4 = zSo g 3 a0 (fs_3.set 29 (.int v_2)) → GW X E 19 g_4 12 [(0, .ref a0), (2, .int x1), (3, .int 0)] []) : zCal X (d + 1) yX3_laysOrder wX3_laysOrder [.ref a0, .int x1] g K KX := by
  refine z_enter hok pn_X3 (Nat.le_of_ble_eq_true rfl) (fun E C hQ => ?_)
  have C : zC X (d + 1) E RX3 cX3_laysOrder 19 none "laysOrder" := C
  have h := h E C hQ
  show GW X E 19 g 0 [(0, .ref a0), (1, .int x1)] []
  intro H locs ls hR hS hl
  refine lv_aload_n C.x C.b dX3_laysOrder_0 rfl (lv_at hl 0 rfl) ?_
  refine lv_aload_n C.x C.b dX3_laysOrder_1 rfl (lv_at hl 0 rfl) ?_
  obtain ⟨fs_1, v_2, q1, q2, h⟩ := h
  refine z_get C hR q1 rfl (ci := 3) rfl in_X3 3 (by decide) q1640 (fun _ h => h) q2 dX3_laysOrder_2 ?_
  obtain ⟨fs_3, q1, q2, h⟩ := h
  refine z_put C hR hS q1 rfl (ci := 3) rfl in_X3 tyX3 tyX3_ok nmX3 29 (by decide) q1666 (fun _ h => h) rfl ⟨rfl, rfl⟩ q2 dX3_laysOrder_5 (fun H locs hR hS => ?_)
  have h := h _ rfl
  generalize zSo g 3 a0 (fs_3.set 29 (.int v_2)) = g_4 at h hR
  refine lv_iload_n C.x C.b dX3_laysOrder_8 rfl (lv_at hl 1 rfl) ?_
  refine lv_istore_n (lv' := [(2, .int x1), (0, .ref a0), (1, .int x1)]) C.x C.b dX3_laysOrder_9 rfl hl (by decide) rfl (fun ls hl => ?_)
  refine lv_iconst (v := 0) C.x C.b dX3_laysOrder_10 (by decide) ?_
  refine lv_istore_n (lv' := [(3, .int 0), (2, .int x1), (0, .ref a0), (1, .int x1)]) C.x C.b dX3_laysOrder_11 rfl hl (by decide) rfl (fun ls hl => ?_)
  exact h H locs ls hR hS (lv_sub hl [2, 1, 0] rfl)
theorem hdV_X3_laysOrder : yX3_laysOrder.cls = RX3 ∧ yX3_laysOrder.cls ≠ "java/lang/invoke/MethodHandle" ∧ yX3_laysOrder.cls ≠ "java/lang/invoke/VarHandle" ∧ (parseMethodDescriptor yX3_laysOrder.desc).map (fun d => d.parameters.length) = some 1 := by decide +kernel
set_option maxHeartbeats 4000000 in
theorem bX3_overOrders_27 {X : zX} {d : Nat} {E : zM} {K : Option Value → zG → Prop} {KX : String → zG → Prop} (C : zC X (d + 1) E RX3 cX3_overOrders 7 (some .int) "overOrders") (hQ : zQ X E K KX) (g : zG) (a0 : Nat) (x1 : Int32) (x2 : Int32) (x3 : Int32) (x4 : Int32) (b0 : Nat) (h : GW X E 7 g 28 [(0, .ref a0), (1, .int x1), (2, .int x2), (3, .int x3), (4, .int x4)] [.int 0, .ref b0]) : GW X E 7 g 27 [(0, .ref a0), (1, .int x1), (2, .int x2), (3, .int x3), (4, .int x4)] [.ref b0] := by
  intro H locs ls hR hS hl
  refine lv_iconst (v := 0) C.x C.b dX3_overOrders_27 (by decide) ?_
  exact h H locs ls hR hS (lv_sub hl [0, 1, 2, 3, 4] rfl)
set_option maxHeartbeats 4000000 in
theorem bX3_overOrders_28 {X : zX} {d : Nat} {E : zM} {K : Option Value → zG → Prop} {KX : String → zG → Prop} (C : zC X (d + 1) E RX3 cX3_overOrders 7 (some .int) "overOrders") (hQ : zQ X E K KX) (g : zG) (a0 : Nat) (x1 : Int32) (x2 : Int32) (x3 : Int32) (x4 : Int32) (b0 : Nat) (t1 : Int32) (h : zCal X d yX3_isAnswer wX3_isAnswer [.int x3] g (fun r g_1 => ∃ v_2 : Int32, r = some (.int v_2) ∧ zbo v_2 ∧ (120 < x4 → zIs g_1 3 b0 ∧ zCal X d yX3_goes wX3_goes [.ref b0, .int t1, .int v_2, .int 0] g_1 (fun r g_3 => ∃ v_4 : Int32, r = some (.int v_4) ∧ zbo v_4 ∧ (¬ v_4 = 0 → GW X E 7 g_3 58 [(0, .ref a0), (1, .int x1), (2, .int x2), (3, .int x3), (4, .int x4), (5, .int 0), (6, .int 0)] []) ∧ (v_4 = 0 → K (some (.int 0)) g_3)) KX) ∧ (¬ 120 < x4 → zIs g_1 3 b0 ∧ zCal X d yX3_goes wX3_goes [.ref b0, .int t1, .int v_2, .int 1] g_1 (fun r g_5 => ∃ v_6 : Int32, r = some (.int v_6) ∧ zbo v_6 ∧ (¬ v_6 = 0 → GW X E 7 g_5 58 [(0, .ref a0), (1, .int x1), (2, .int x2), (3, .int x3), (4, .int x4), (5, .int 0), (6, .int 0)] []) ∧ (v_6 = 0 → K (some (.int 0)) g_5)) KX)) KX) : GW X E 7 g 28 [(0, .ref a0), (1, .int x1), (2, .int x2), (3, .int x3), (4, .int x4)] [.int t1, .ref b0] := by
  intro H locs ls hR hS hl
  refine lv_iload_n C.x C.b dX3_overOrders_28 rfl (lv_at hl 3 rfl) ?_
  refine z_callS C hR hS hl (n := 1) (y := yX3_isAnswer) (bytes := cX3_isAnswer) (maxL := 1) (rt := (some .boolean)) (As := [.int x3]) (rest := [.int t1, .ref b0]) (lw_S q2030 q2031 q82 q2032) hdS_X3_isAnswer (by decide) rfl rfl (Nat.le_of_ble_eq_true rfl) dX3_overOrders_29 h (fun r g_1 hk_ => ?_) (fun x g1 h => z_out C hQ h)
  clear h; obtain ⟨v_2, rfl, zb_, h⟩ := hk_
  show GW X E 7 g_1 32 [(0, .ref a0), (1, .int x1), (2, .int x2), (3, .int x3), (4, .int x4)] [.int v_2, .int t1, .ref b0]
  intro H locs ls hR hS hl
  refine lv_iload C.x C.b dX3_overOrders_32 (lv_at hl 4 rfl) ?_
  refine lv_bipush (v := 120) C.x C.b dX3_overOrders_34 (by decide) ?_
  obtain ⟨h1, h2⟩ := h
  refine lv_icmp_gt (tgt := 43) C.x C.b dX3_overOrders_36 (by decide) (fun c => ?_) (fun c => ?_)
  · have h := h1 c; clear h1 h2
    refine lv_iconst (v := 0) C.x C.b dX3_overOrders_43 (by decide) ?_
    refine z_callV C hR hS hl (n := 3) (C1 := RX3) (T := TX3) (N := 35) (ci := 3) (y := yX3_goes) (bytes := cX3_goes) (maxL := 4) (rt := (some .boolean)) (As := [.int t1, .int v_2, .int 0]) (rest := []) h.1 rfl (lw_V q1758 q1760 qs28 q82 q1761) hdV_X3_goes (by decide) rfl rfl (Nat.le_of_ble_eq_true rfl) dX3_overOrders_44 h.2 (fun r g_3 hk_ => ?_) (fun x g1 h => z_out C hQ h)
    clear h; obtain ⟨v_4, rfl, zb_, h⟩ := hk_
    show GW X E 7 g_3 47 [(0, .ref a0), (1, .int x1), (2, .int x2), (3, .int x3), (4, .int x4)] [.int v_4]
    intro H locs ls hR hS hl
    obtain ⟨h1, h2⟩ := h
    refine lv_if_ne (tgt := 52) C.x C.b dX3_overOrders_47 (by decide) (fun c => ?_) (fun c => ?_)
    · have h := h1 c; clear h1 h2
      refine lv_iconst (v := 0) C.x C.b dX3_overOrders_52 (by decide) ?_
      refine lv_istore (lv' := [(5, .int 0), (0, .ref a0), (1, .int x1), (2, .int x2), (3, .int x3), (4, .int x4)]) C.x C.b dX3_overOrders_53 hl (by decide) rfl (fun ls hl => ?_)
      refine lv_iconst (v := 0) C.x C.b dX3_overOrders_55 (by decide) ?_
      refine lv_istore (lv' := [(6, .int 0), (5, .int 0), (0, .ref a0), (1, .int x1), (2, .int x2), (3, .int x3), (4, .int x4)]) C.x C.b dX3_overOrders_56 hl (by decide) rfl (fun ls hl => ?_)
      exact h H locs ls hR hS (lv_sub hl [2, 3, 4, 5, 6, 1, 0] rfl)
    · have h := h2 c; clear h1 h2
      refine lv_iconst (v := 0) C.x C.b dX3_overOrders_50 (by decide) ?_
      exact z_iret C hQ dX3_overOrders_51 h H locs ls hR hS hl
  · have h := h2 c; clear h1 h2
    refine lv_iconst (v := 1) C.x C.b dX3_overOrders_39 (by decide) ?_
    refine lv_goto (tgt := 44) C.x C.b dX3_overOrders_40 (by decide) ?_
    refine z_callV C hR hS hl (n := 3) (C1 := RX3) (T := TX3) (N := 35) (ci := 3) (y := yX3_goes) (bytes := cX3_goes) (maxL := 4) (rt := (some .boolean)) (As := [.int t1, .int v_2, .int 1]) (rest := []) h.1 rfl (lw_V q1758 q1760 qs28 q82 q1761) hdV_X3_goes (by decide) rfl rfl (Nat.le_of_ble_eq_true rfl) dX3_overOrders_44 h.2 (fun r g_5 hk_ => ?_) (fun x g1 h => z_out C hQ h)
    clear h; obtain ⟨v_6, rfl, zb_, h⟩ := hk_
    show GW X E 7 g_5 47 [(0, .ref a0), (1, .int x1), (2, .int x2), (3, .int x3), (4, .int x4)] [.int v_6]
    intro H locs ls hR hS hl
    obtain ⟨h1, h2⟩ := h
    refine lv_if_ne (tgt := 52) C.x C.b dX3_overOrders_47 (by decide) (fun c => ?_) (fun c => ?_)
    · have h := h1 c; clear h1 h2
      refine lv_iconst (v := 0) C.x C.b dX3_overOrders_52 (by decide) ?_
      refine lv_istore (lv' := [(5, .int 0), (0, .ref a0), (1, .int x1), (2, .int x2), (3, .int x3), (4, .int x4)]) C.x C.b dX3_overOrders_53 hl (by decide) rfl (fun ls hl => ?_)
      refine lv_iconst (v := 0) C.x C.b dX3_overOrders_55 (by decide) ?_
      refine lv_istore (lv' := [(6, .int 0), (5, .int 0), (0, .ref a0), (1, .int x1), (2, .int x2), (3, .int x3), (4, .int x4)]) C.x C.b dX3_overOrders_56 hl (by decide) rfl (fun ls hl => ?_)
      exact h H locs ls hR hS (lv_sub hl [2, 3, 4, 5, 6, 1, 0] rfl)
    · have h := h2 c; clear h1 h2
      refine lv_iconst (v := 0) C.x C.b dX3_overOrders_50 (by decide) ?_
      exact z_iret C hQ dX3_overOrders_51 h H locs ls hR hS hl
set_option maxHeartbeats 4000000 in
theorem bX3_overOrders_58 {X : zX} {d : Nat} {E : zM} {K : Option Value → zG → Prop} {KX : String → zG → Prop} (C : zC X (d + 1) E RX3 cX3_overOrders 7 (some .int) "overOrders") (hQ : zQ X E K KX) (g : zG) (a0 : Nat) (x1 : Int32) (x2 : Int32) (x3 : Int32) (x4 : Int32) (x5 : Int32) (x6 : Int32) (h : (x4 ≤ x6 → K (some (.int x5)) g) ∧ (¬ x4 ≤ x6 → zIs g 3 a0 ∧ zCal X d yX3_laysOrder wX3_laysOrder [.ref a0, .int x6] g (fun r g_1 => r = none ∧ zIs g_1 3 a0 ∧ zCal X d yX3_idsOf wX3_idsOf [.ref a0] g_1 (fun r g_2 => ∃ v_3 : Int32, r = some (.int v_3) ∧ ∃ (fs_4 : List Value), zGo g_2 3 a0 = some fs_4 ∧ 31 < fs_4.length ∧ ∀ g_5 : zG, g_5 = zSo g_2 3 a0 (fs_4.set 31 (.int v_3)) → zIs g_5 3 a0 ∧ zCal X d yX3_finds wX3_finds [.ref a0, .int x1] g_5 (fun r g_6 => r = none ∧ ∃ (fs_7 : List Value) (a_8 : Nat), zGo g_6 3 a0 = some fs_7 ∧ fs_7[33]? = some (.ref a_8) ∧ ∃ (n_9 : Nat) (f_10 : Nat → Int32), zGi g_6 33 a_8 = some (n_9, f_10) ∧ vp_in x2 n_9 ∧ ∀ v_11 : Int32, v_11 = f_10 x2.toNatClampNeg → (¬ v_11 = x3 → GW X E 7 g_6 58 [(0, .ref a0), (1, .int x1), (2, .int x2), (3, .int x3), (4, .int x4), (5, .int (x5 + 0)), (6, .int (x6 + 1))] []) ∧ (v_11 = x3 → GW X E 7 g_6 58 [(0, .ref a0), (1, .int x1), (2, .int x2), (3, .int x3), (4, .int x4), (5, .int (x5 + 1)), (6, .int (x6 + 1))] [])) KX) KX) KX)) : GW X E 7 g 58 [(0, .ref a0), (1, .int x1), (2, .int x2), (3, .int x3), (4, .int x4), (5, .int x5), (6, .int x6)] [] := by
  intro H locs ls hR hS hl
  refine lv_iload C.x C.b dX3_overOrders_58 (lv_at hl 6 rfl) ?_
  refine lv_iload C.x C.b dX3_overOrders_60 (lv_at hl 4 rfl) ?_
  obtain ⟨h1, h2⟩ := h
  refine lv_icmp_ge (tgt := 110) C.x C.b dX3_overOrders_62 (by decide) (fun c => ?_) (fun c => ?_)
  · have h := h1 c; clear h1 h2
    refine lv_iload C.x C.b dX3_overOrders_110 (lv_at hl 5 rfl) ?_
    exact z_iret C hQ dX3_overOrders_112 h H locs ls hR hS hl
  · have h := h2 c; clear h1 h2
    refine lv_aload_n C.x C.b dX3_overOrders_65 rfl (lv_at hl 0 rfl) ?_
    refine lv_iload C.x C.b dX3_overOrders_66 (lv_at hl 6 rfl) ?_
    refine z_callV C hR hS hl (n := 1) (C1 := RX3) (T := TX3) (N := 35) (ci := 3) (y := yX3_laysOrder) (bytes := cX3_laysOrder) (maxL := 19) (rt := none) (As := [.int x6]) (rest := []) h.1 rfl (lw_V q2093 q2095 qs66 q82 q2096) hdV_X3_laysOrder (by decide) rfl rfl (Nat.le_of_ble_eq_true rfl) dX3_overOrders_68 h.2 (fun r g_1 hk_ => ?_) (fun x g1 h => z_out C hQ h)
    clear h; obtain ⟨rfl, h⟩ := hk_
    show GW X E 7 g_1 71 [(0, .ref a0), (1, .int x1), (2, .int x2), (3, .int x3), (4, .int x4), (5, .int x5), (6, .int x6)] []
    intro H locs ls hR hS hl
    refine lv_aload_n C.x C.b dX3_overOrders_71 rfl (lv_at hl 0 rfl) ?_
    refine lv_aload_n C.x C.b dX3_overOrders_72 rfl (lv_at hl 0 rfl) ?_
    refine z_callV C hR hS hl (n := 0) (C1 := RX3) (T := TX3) (N := 35) (ci := 3) (y := yX3_idsOf) (bytes := cX3_idsOf) (maxL := 3) (rt := (some .int)) (As := []) (rest := [.ref a0]) h.1 rfl (lw_V q1793 q1795 qs34 q82 q1796) hdV_X3_idsOf (by decide) rfl rfl (Nat.le_of_ble_eq_true rfl) dX3_overOrders_73 h.2 (fun r g_2 hk_ => ?_) (fun x g1 h => z_out C hQ h)
    clear h; obtain ⟨v_3, rfl, h⟩ := hk_
    show GW X E 7 g_2 76 [(0, .ref a0), (1, .int x1), (2, .int x2), (3, .int x3), (4, .int x4), (5, .int x5), (6, .int x6)] [.int v_3, .ref a0]
    intro H locs ls hR hS hl
    obtain ⟨fs_4, q1, q2, h⟩ := h
    refine z_put C hR hS q1 rfl (ci := 3) rfl in_X3 tyX3 tyX3_ok nmX3 31 (by decide) q1668 (fun _ h => h) rfl ⟨rfl, rfl⟩ q2 dX3_overOrders_76 (fun H locs hR hS => ?_)
    have h := h _ rfl
    generalize zSo g_2 3 a0 (fs_4.set 31 (.int v_3)) = g_5 at h hR
    refine lv_aload_n C.x C.b dX3_overOrders_79 rfl (lv_at hl 0 rfl) ?_
    refine lv_iload_n C.x C.b dX3_overOrders_80 rfl (lv_at hl 1 rfl) ?_
    refine z_callV C hR hS hl (n := 1) (C1 := RX3) (T := TX3) (N := 35) (ci := 3) (y := yX3_finds) (bytes := cX3_finds) (maxL := 7) (rt := none) (As := [.int x1]) (rest := []) h.1 rfl (lw_V q1797 q1799 qs35 q82 q1800) hdV_X3_finds (by decide) rfl rfl (Nat.le_of_ble_eq_true rfl) dX3_overOrders_81 h.2 (fun r g_6 hk_ => ?_) (fun x g1 h => z_out C hQ h)
    clear h; obtain ⟨rfl, h⟩ := hk_
    show GW X E 7 g_6 84 [(0, .ref a0), (1, .int x1), (2, .int x2), (3, .int x3), (4, .int x4), (5, .int x5), (6, .int x6)] []
    intro H locs ls hR hS hl
    refine lv_iload C.x C.b dX3_overOrders_84 (lv_at hl 5 rfl) ?_
    refine lv_aload_n C.x C.b dX3_overOrders_86 rfl (lv_at hl 0 rfl) ?_
    obtain ⟨fs_7, a_8, q1, q2, h⟩ := h
    refine z_get C hR q1 rfl (ci := 3) rfl in_X3 33 (by decide) q1670 (fun _ h => h) q2 dX3_overOrders_87 ?_
    refine lv_iload_n C.x C.b dX3_overOrders_90 rfl (lv_at hl 2 rfl) ?_
    obtain ⟨n_9, f_10, q1, q2, h⟩ := h
    refine z_iald C hR q1 (by decide) q2 dX3_overOrders_91 ?_
    have h := h _ rfl
    generalize f_10 x2.toNatClampNeg = v_11 at h ⊢
    refine lv_iload_n C.x C.b dX3_overOrders_92 rfl (lv_at hl 3 rfl) ?_
    obtain ⟨h1, h2⟩ := h
    refine lv_icmp_ne (tgt := 100) C.x C.b dX3_overOrders_93 (by decide) (fun c => ?_) (fun c => ?_)
    · have h := h1 c; clear h1 h2
      refine lv_iconst (v := 0) C.x C.b dX3_overOrders_100 (by decide) ?_
      refine lv_iadd C.x C.b dX3_overOrders_101 ?_
      refine lv_istore (lv' := [(5, .int (x5 + 0)), (0, .ref a0), (1, .int x1), (2, .int x2), (3, .int x3), (4, .int x4), (6, .int x6)]) C.x C.b dX3_overOrders_102 hl (by decide) rfl (fun ls hl => ?_)
      refine lv_iinc (v := x6 + 1) (lv' := [(6, .int (x6 + 1)), (5, .int (x5 + 0)), (0, .ref a0), (1, .int x1), (2, .int x2), (3, .int x3), (4, .int x4)]) C.x C.b dX3_overOrders_104 hl (k := 6) rfl rfl (by decide) rfl (fun ls hl => ?_)
      refine lv_goto (tgt := 58) C.x C.b dX3_overOrders_107 (by decide) ?_
      exact h H locs ls hR hS (lv_sub hl [2, 3, 4, 5, 6, 1, 0] rfl)
    · have h := h2 c; clear h1 h2
      refine lv_iconst (v := 1) C.x C.b dX3_overOrders_96 (by decide) ?_
      refine lv_goto (tgt := 101) C.x C.b dX3_overOrders_97 (by decide) ?_
      refine lv_iadd C.x C.b dX3_overOrders_101 ?_
      refine lv_istore (lv' := [(5, .int (x5 + 1)), (0, .ref a0), (1, .int x1), (2, .int x2), (3, .int x3), (4, .int x4), (6, .int x6)]) C.x C.b dX3_overOrders_102 hl (by decide) rfl (fun ls hl => ?_)
      refine lv_iinc (v := x6 + 1) (lv' := [(6, .int (x6 + 1)), (5, .int (x5 + 1)), (0, .ref a0), (1, .int x1), (2, .int x2), (3, .int x3), (4, .int x4)]) C.x C.b dX3_overOrders_104 hl (k := 6) rfl rfl (by decide) rfl (fun ls hl => ?_)
      refine lv_goto (tgt := 58) C.x C.b dX3_overOrders_107 (by decide) ?_
      exact h H locs ls hR hS (lv_sub hl [2, 3, 4, 5, 6, 1, 0] rfl)
set_option maxHeartbeats 4000000 in
theorem mX3_overOrders {X : zX} {d : Nat} {g : zG} {K : Option Value → zG → Prop} {KX : String → zG → Prop} (hok : zOk X) (a0 : Nat) (x1 : Int32) (x2 : Int32) (x3 : Int32) (h : ∀ E : zM, zC X (d + 1) E RX3 cX3_overOrders 7 (some .int) "overOrders" → zQ X E K KX → zIs g 3 a0 ∧ zCal X d yX3_ordersOf wX3_ordersOf [.ref a0] g (fun r g_1 => ∃ v_2 : Int32, r = some (.int v_2) ∧ zIs g_1 3 a0 ∧ zCal X d yX3_isMonitor wX3_isMonitor [.ref a0, .int x1] g_1 (fun r g_3 => ∃ v_4 : Int32, r = some (.int v_4) ∧ zbo v_4 ∧ (v_4 = 0 → GW X E 7 g_3 27 [(0, .ref a0), (1, .int x1), (2, .int x2), (3, .int x3), (4, .int v_2)] [.ref a0]) ∧ (¬ v_4 = 0 → zIs g_3 3 a0 ∧ zCal X d yX3_isEvent wX3_isEvent [.ref a0, .int x2] g_3 (fun r g_5 => ∃ v_6 : Int32, r = some (.int v_6) ∧ zbo v_6 ∧ (v_6 = 0 → GW X E 7 g_5 27 [(0, .ref a0), (1, .int x1), (2, .int x2), (3, .int x3), (4, .int v_2)] [.ref a0]) ∧ (¬ v_6 = 0 → GW X E 7 g_5 28 [(0, .ref a0), (1, .int x1), (2, .int x2), (3, .int x3), (4, .int v_2)] [.int 1, .ref a0])) KX)) KX) KX) : zCal X (d + 1) yX3_overOrders wX3_overOrders [.ref a0, .int x1, .int x2, .int x3] g K KX := by
  refine z_enter hok pn_X3 (Nat.le_of_ble_eq_true rfl) (fun E C hQ => ?_)
  have C : zC X (d + 1) E RX3 cX3_overOrders 7 (some .int) "overOrders" := C
  have h := h E C hQ
  show GW X E 7 g 0 [(0, .ref a0), (1, .int x1), (2, .int x2), (3, .int x3)] []
  intro H locs ls hR hS hl
  refine lv_aload_n C.x C.b dX3_overOrders_0 rfl (lv_at hl 0 rfl) ?_
  refine z_callV C hR hS hl (n := 0) (C1 := RX3) (T := TX3) (N := 35) (ci := 3) (y := yX3_ordersOf) (bytes := cX3_ordersOf) (maxL := 5) (rt := (some .int)) (As := []) (rest := []) h.1 rfl (lw_V q2071 q2073 qs63 q82 q2074) hdV_X3_ordersOf (by decide) rfl rfl (Nat.le_of_ble_eq_true rfl) dX3_overOrders_1 h.2 (fun r g_1 hk_ => ?_) (fun x g1 h => z_out C hQ h)
  clear h; obtain ⟨v_2, rfl, h⟩ := hk_
  show GW X E 7 g_1 4 [(0, .ref a0), (1, .int x1), (2, .int x2), (3, .int x3)] [.int v_2]
  intro H locs ls hR hS hl
  refine lv_istore (lv' := [(4, .int v_2), (0, .ref a0), (1, .int x1), (2, .int x2), (3, .int x3)]) C.x C.b dX3_overOrders_4 hl (by decide) rfl (fun ls hl => ?_)
  refine lv_aload_n C.x C.b dX3_overOrders_6 rfl (lv_at hl 1 rfl) ?_
  refine lv_aload_n C.x C.b dX3_overOrders_7 rfl (lv_at hl 1 rfl) ?_
  refine lv_iload_n C.x C.b dX3_overOrders_8 rfl (lv_at hl 2 rfl) ?_
  refine z_callV C hR hS hl (n := 1) (C1 := RX3) (T := TX3) (N := 35) (ci := 3) (y := yX3_isMonitor) (bytes := cX3_isMonitor) (maxL := 2) (rt := (some .boolean)) (As := [.int x1]) (rest := [.ref a0]) h.1 rfl (lw_V q2013 q2015 qs59 q82 q2016) hdV_X3_isMonitor (by decide) rfl rfl (Nat.le_of_ble_eq_true rfl) dX3_overOrders_9 h.2 (fun r g_3 hk_ => ?_) (fun x g1 h => z_out C hQ h)
  clear h; obtain ⟨v_4, rfl, zb_, h⟩ := hk_
  show GW X E 7 g_3 12 [(4, .int v_2), (0, .ref a0), (1, .int x1), (2, .int x2), (3, .int x3)] [.int v_4, .ref a0]
  intro H locs ls hR hS hl
  obtain ⟨h1, h2⟩ := h
  refine lv_if_eq (tgt := 27) C.x C.b dX3_overOrders_12 (by decide) (fun c => ?_) (fun c => ?_)
  · have h := h1 c; clear h1 h2
    exact h H locs ls hR hS (lv_sub hl [1, 2, 3, 4, 0] rfl)
  · have h := h2 c; clear h1 h2
    refine lv_aload_n C.x C.b dX3_overOrders_15 rfl (lv_at hl 1 rfl) ?_
    refine lv_iload_n C.x C.b dX3_overOrders_16 rfl (lv_at hl 3 rfl) ?_
    refine z_callV C hR hS hl (n := 1) (C1 := RX3) (T := TX3) (N := 35) (ci := 3) (y := yX3_isEvent) (bytes := cX3_isEvent) (maxL := 2) (rt := (some .boolean)) (As := [.int x2]) (rest := [.ref a0]) h.1 rfl (lw_V q1976 q1978 qs56 q82 q1979) hdV_X3_isEvent (by decide) rfl rfl (Nat.le_of_ble_eq_true rfl) dX3_overOrders_17 h.2 (fun r g_5 hk_ => ?_) (fun x g1 h => z_out C hQ h)
    clear h; obtain ⟨v_6, rfl, zb_, h⟩ := hk_
    show GW X E 7 g_5 20 [(4, .int v_2), (0, .ref a0), (1, .int x1), (2, .int x2), (3, .int x3)] [.int v_6, .ref a0]
    intro H locs ls hR hS hl
    obtain ⟨h1, h2⟩ := h
    refine lv_if_eq (tgt := 27) C.x C.b dX3_overOrders_20 (by decide) (fun c => ?_) (fun c => ?_)
    · have h := h1 c; clear h1 h2
      exact h H locs ls hR hS (lv_sub hl [1, 2, 3, 4, 0] rfl)
    · have h := h2 c; clear h1 h2
      refine lv_iconst (v := 1) C.x C.b dX3_overOrders_23 (by decide) ?_
      refine lv_goto (tgt := 28) C.x C.b dX3_overOrders_24 (by decide) ?_
      exact h H locs ls hR hS (lv_sub hl [1, 2, 3, 4, 0] rfl)
set_option maxHeartbeats 4000000 in
theorem bX3_isFalseWith_8 {X : zX} {d : Nat} {E : zM} {K : Option Value → zG → Prop} {KX : String → zG → Prop} (C : zC X (d + 1) E RX3 cX3_isFalseWith 5 (some .boolean) "isFalseWith") (hQ : zQ X E K KX) (g : zG) (a0 : Nat) (x1 : Int32) (x2 : Int32) (x3 : Int32) (x4 : Int32) (h : ∃ (fs_1 : List Value) (v_2 : Int32), zGo g 3 a0 = some fs_1 ∧ fs_1[3]? = some (.int v_2) ∧ (v_2 ≤ x4 → zIs g 3 a0 ∧ zCal X d yX3_idsOf wX3_idsOf [.ref a0] g (fun r g_3 => ∃ v_4 : Int32, r = some (.int v_4) ∧ ∃ (fs_5 : List Value), zGo g_3 3 a0 = some fs_5 ∧ 31 < fs_5.length ∧ ∀ g_6 : zG, g_6 = zSo g_3 3 a0 (fs_5.set 31 (.int v_4)) → zIs g_6 3 a0 ∧ zCal X d yX3_finds wX3_finds [.ref a0, .int x1] g_6 (fun r g_7 => r = none ∧ ∃ (fs_8 : List Value) (a_9 : Nat), zGo g_7 3 a0 = some fs_8 ∧ fs_8[33]? = some (.ref a_9) ∧ ∃ (n_10 : Nat) (f_11 : Nat → Int32), zGi g_7 33 a_9 = some (n_10, f_11) ∧ vp_in x2 n_10 ∧ ∀ v_12 : Int32, v_12 = f_11 x2.toNatClampNeg → (¬ v_12 = 0 → K (some (.int 0)) g_7) ∧ (v_12 = 0 → K (some (.int 1)) g_7)) KX) KX) ∧ (¬ v_2 ≤ x4 → (¬ ((x3 >>> (x4 &&& 31)) &&& 1) = 1 → GW X E 5 g 8 [(0, .ref a0), (1, .int x1), (2, .int x2), (3, .int x3), (4, .int (x4 + 1))] []) ∧ (((x3 >>> (x4 &&& 31)) &&& 1) = 1 → ∃ (fs_13 : List Value) (a_14 : Nat), zGo g 3 a0 = some fs_13 ∧ fs_13[30]? = some (.ref a_14) ∧ ∃ (fs_15 : List Value) (v_16 : Int32), zGo g 3 a0 = some fs_15 ∧ fs_15[29]? = some (.int v_16) ∧ ∃ (fs_17 : List Value) (a_18 : Nat), zGo g 3 a0 = some fs_17 ∧ fs_17[12]? = some (.ref a_18) ∧ ∃ (n_19 : Nat) (f_20 : Nat → Int32), zGi g 12 a_18 = some (n_19, f_20) ∧ vp_in x4 n_19 ∧ ∀ v_21 : Int32, v_21 = f_20 x4.toNatClampNeg → ∃ (n_22 : Nat) (f_23 : Nat → Int32), zGi g 30 a_14 = some (n_22, f_23) ∧ vp_in v_16 n_22 ∧ ∀ g_24 : zG, g_24 = zSi g 30 a_14 n_22 (upd f_23 v_16.toNatClampNeg v_21) → ∃ (fs_25 : List Value) (v_26 : Int32), zGo g_24 3 a0 = some fs_25 ∧ fs_25[29]? = some (.int v_26) ∧ ∃ (fs_27 : List Value), zGo g_24 3 a0 = some fs_27 ∧ 29 < fs_27.length ∧ ∀ g_28 : zG, g_28 = zSo g_24 3 a0 (fs_27.set 29 (.int (v_26 + 1))) → GW X E 5 g_28 8 [(0, .ref a0), (1, .int x1), (2, .int x2), (3, .int x3), (4, .int (x4 + 1))] []))) : GW X E 5 g 8 [(0, .ref a0), (1, .int x1), (2, .int x2), (3, .int x3), (4, .int x4)] [] := by
  intro H locs ls hR hS hl
  refine lv_iload C.x C.b dX3_isFalseWith_8 (lv_at hl 4 rfl) ?_
  refine lv_aload_n C.x C.b dX3_isFalseWith_10 rfl (lv_at hl 0 rfl) ?_
  obtain ⟨fs_1, v_2, q1, q2, h⟩ := h
  refine z_get C hR q1 rfl (ci := 3) rfl in_X3 3 (by decide) q1640 (fun _ h => h) q2 dX3_isFalseWith_11 ?_
  obtain ⟨h1, h2⟩ := h
  refine lv_icmp_ge (tgt := 59) C.x C.b dX3_isFalseWith_14 (by decide) (fun c => ?_) (fun c => ?_)
  · have h := h1 c; clear h1 h2
    refine lv_aload_n C.x C.b dX3_isFalseWith_59 rfl (lv_at hl 0 rfl) ?_
    refine lv_aload_n C.x C.b dX3_isFalseWith_60 rfl (lv_at hl 0 rfl) ?_
    refine z_callV C hR hS hl (n := 0) (C1 := RX3) (T := TX3) (N := 35) (ci := 3) (y := yX3_idsOf) (bytes := cX3_idsOf) (maxL := 3) (rt := (some .int)) (As := []) (rest := [.ref a0]) h.1 rfl (lw_V q1793 q1795 qs34 q82 q1796) hdV_X3_idsOf (by decide) rfl rfl (Nat.le_of_ble_eq_true rfl) dX3_isFalseWith_61 h.2 (fun r g_3 hk_ => ?_) (fun x g1 h => z_out C hQ h)
    clear h; obtain ⟨v_4, rfl, h⟩ := hk_
    show GW X E 5 g_3 64 [(0, .ref a0), (1, .int x1), (2, .int x2), (3, .int x3), (4, .int x4)] [.int v_4, .ref a0]
    intro H locs ls hR hS hl
    obtain ⟨fs_5, q1, q2, h⟩ := h
    refine z_put C hR hS q1 rfl (ci := 3) rfl in_X3 tyX3 tyX3_ok nmX3 31 (by decide) q1668 (fun _ h => h) rfl ⟨rfl, rfl⟩ q2 dX3_isFalseWith_64 (fun H locs hR hS => ?_)
    have h := h _ rfl
    generalize zSo g_3 3 a0 (fs_5.set 31 (.int v_4)) = g_6 at h hR
    refine lv_aload_n C.x C.b dX3_isFalseWith_67 rfl (lv_at hl 0 rfl) ?_
    refine lv_iload_n C.x C.b dX3_isFalseWith_68 rfl (lv_at hl 1 rfl) ?_
    refine z_callV C hR hS hl (n := 1) (C1 := RX3) (T := TX3) (N := 35) (ci := 3) (y := yX3_finds) (bytes := cX3_finds) (maxL := 7) (rt := none) (As := [.int x1]) (rest := []) h.1 rfl (lw_V q1797 q1799 qs35 q82 q1800) hdV_X3_finds (by decide) rfl rfl (Nat.le_of_ble_eq_true rfl) dX3_isFalseWith_69 h.2 (fun r g_7 hk_ => ?_) (fun x g1 h => z_out C hQ h)
    clear h; obtain ⟨rfl, h⟩ := hk_
    show GW X E 5 g_7 72 [(0, .ref a0), (1, .int x1), (2, .int x2), (3, .int x3), (4, .int x4)] []
    intro H locs ls hR hS hl
    refine lv_aload_n C.x C.b dX3_isFalseWith_72 rfl (lv_at hl 0 rfl) ?_
    obtain ⟨fs_8, a_9, q1, q2, h⟩ := h
    refine z_get C hR q1 rfl (ci := 3) rfl in_X3 33 (by decide) q1670 (fun _ h => h) q2 dX3_isFalseWith_73 ?_
    refine lv_iload_n C.x C.b dX3_isFalseWith_76 rfl (lv_at hl 2 rfl) ?_
    obtain ⟨n_10, f_11, q1, q2, h⟩ := h
    refine z_iald C hR q1 (by decide) q2 dX3_isFalseWith_77 ?_
    have h := h _ rfl
    generalize f_11 x2.toNatClampNeg = v_12 at h ⊢
    obtain ⟨h1, h2⟩ := h
    refine lv_if_ne (tgt := 85) C.x C.b dX3_isFalseWith_78 (by decide) (fun c => ?_) (fun c => ?_)
    · have h := h1 c; clear h1 h2
      refine lv_iconst (v := 0) C.x C.b dX3_isFalseWith_85 (by decide) ?_
      exact z_zret C hQ rfl dX3_isFalseWith_86 h H locs ls hR hS hl
    · have h := h2 c; clear h1 h2
      refine lv_iconst (v := 1) C.x C.b dX3_isFalseWith_81 (by decide) ?_
      refine lv_goto (tgt := 86) C.x C.b dX3_isFalseWith_82 (by decide) ?_
      exact z_zret C hQ rfl dX3_isFalseWith_86 h H locs ls hR hS hl
  · have h := h2 c; clear h1 h2
    refine lv_iload_n C.x C.b dX3_isFalseWith_17 rfl (lv_at hl 3 rfl) ?_
    refine lv_iload C.x C.b dX3_isFalseWith_18 (lv_at hl 4 rfl) ?_
    refine lv_ishr C.x C.b dX3_isFalseWith_20 ?_
    refine lv_iconst (v := 1) C.x C.b dX3_isFalseWith_21 (by decide) ?_
    refine lv_iand C.x C.b dX3_isFalseWith_22 ?_
    refine lv_iconst (v := 1) C.x C.b dX3_isFalseWith_23 (by decide) ?_
    obtain ⟨h1, h2⟩ := h
    refine lv_icmp_ne (tgt := 53) C.x C.b dX3_isFalseWith_24 (by decide) (fun c => ?_) (fun c => ?_)
    · have h := h1 c; clear h1 h2
      refine lv_iinc (v := x4 + 1) (lv' := [(4, .int (x4 + 1)), (0, .ref a0), (1, .int x1), (2, .int x2), (3, .int x3)]) C.x C.b dX3_isFalseWith_53 hl (k := 4) rfl rfl (by decide) rfl (fun ls hl => ?_)
      refine lv_goto (tgt := 8) C.x C.b dX3_isFalseWith_56 (by decide) ?_
      exact h H locs ls hR hS (lv_sub hl [1, 2, 3, 4, 0] rfl)
    · have h := h2 c; clear h1 h2
      refine lv_aload_n C.x C.b dX3_isFalseWith_27 rfl (lv_at hl 0 rfl) ?_
      obtain ⟨fs_13, a_14, q1, q2, h⟩ := h
      refine z_get C hR q1 rfl (ci := 3) rfl in_X3 30 (by decide) q1667 (fun _ h => h) q2 dX3_isFalseWith_28 ?_
      refine lv_aload_n C.x C.b dX3_isFalseWith_31 rfl (lv_at hl 0 rfl) ?_
      obtain ⟨fs_15, v_16, q1, q2, h⟩ := h
      refine z_get C hR q1 rfl (ci := 3) rfl in_X3 29 (by decide) q1666 (fun _ h => h) q2 dX3_isFalseWith_32 ?_
      refine lv_aload_n C.x C.b dX3_isFalseWith_35 rfl (lv_at hl 0 rfl) ?_
      obtain ⟨fs_17, a_18, q1, q2, h⟩ := h
      refine z_get C hR q1 rfl (ci := 3) rfl in_X3 12 (by decide) q1649 (fun _ h => h) q2 dX3_isFalseWith_36 ?_
      refine lv_iload C.x C.b dX3_isFalseWith_39 (lv_at hl 4 rfl) ?_
      obtain ⟨n_19, f_20, q1, q2, h⟩ := h
      refine z_iald C hR q1 (by decide) q2 dX3_isFalseWith_41 ?_
      have h := h _ rfl
      generalize f_20 x4.toNatClampNeg = v_21 at h ⊢
      obtain ⟨n_22, f_23, q1, q2, h⟩ := h
      refine z_iast C hR hS q1 (by decide) q2 dX3_isFalseWith_42 (fun H locs hR hS => ?_)
      have h := h _ rfl
      generalize zSi g 30 a_14 n_22 (upd f_23 v_16.toNatClampNeg v_21) = g_24 at h hR
      refine lv_aload_n C.x C.b dX3_isFalseWith_43 rfl (lv_at hl 0 rfl) ?_
      refine lv_dup C.x C.b dX3_isFalseWith_44 rfl ?_
      obtain ⟨fs_25, v_26, q1, q2, h⟩ := h
      refine z_get C hR q1 rfl (ci := 3) rfl in_X3 29 (by decide) q1666 (fun _ h => h) q2 dX3_isFalseWith_45 ?_
      refine lv_iconst (v := 1) C.x C.b dX3_isFalseWith_48 (by decide) ?_
      refine lv_iadd C.x C.b dX3_isFalseWith_49 ?_
      obtain ⟨fs_27, q1, q2, h⟩ := h
      refine z_put C hR hS q1 rfl (ci := 3) rfl in_X3 tyX3 tyX3_ok nmX3 29 (by decide) q1666 (fun _ h => h) rfl ⟨rfl, rfl⟩ q2 dX3_isFalseWith_50 (fun H locs hR hS => ?_)
      have h := h _ rfl
      generalize zSo g_24 3 a0 (fs_27.set 29 (.int (v_26 + 1))) = g_28 at h hR
      refine lv_iinc (v := x4 + 1) (lv' := [(4, .int (x4 + 1)), (0, .ref a0), (1, .int x1), (2, .int x2), (3, .int x3)]) C.x C.b dX3_isFalseWith_53 hl (k := 4) rfl rfl (by decide) rfl (fun ls hl => ?_)
      refine lv_goto (tgt := 8) C.x C.b dX3_isFalseWith_56 (by decide) ?_
      exact h H locs ls hR hS (lv_sub hl [1, 2, 3, 4, 0] rfl)
set_option maxHeartbeats 4000000 in
theorem mX3_isFalseWith {X : zX} {d : Nat} {g : zG} {K : Option Value → zG → Prop} {KX : String → zG → Prop} (hok : zOk X) (a0 : Nat) (x1 : Int32) (x2 : Int32) (x3 : Int32) (h : ∀ E : zM, zC X (d + 1) E RX3 cX3_isFalseWith 5 (some .boolean) "isFalseWith" → zQ X E K KX → ∃ (fs_1 : List Value), zGo g 3 a0 = some fs_1 ∧ 29 < fs_1.length ∧ ∀ g_2 : zG, g_2 = zSo g 3 a0 (fs_1.set 29 (.int 0)) → GW X E 5 g_2 8 [(0, .ref a0), (1, .int x1), (2, .int x2), (3, .int x3), (4, .int 0)] []) : zCal X (d + 1) yX3_isFalseWith wX3_isFalseWith [.ref a0, .int x1, .int x2, .int x3] g K KX := by
  refine z_enter hok pn_X3 (Nat.le_of_ble_eq_true rfl) (fun E C hQ => ?_)
  have C : zC X (d + 1) E RX3 cX3_isFalseWith 5 (some .boolean) "isFalseWith" := C
  have h := h E C hQ
  show GW X E 5 g 0 [(0, .ref a0), (1, .int x1), (2, .int x2), (3, .int x3)] []
  intro H locs ls hR hS hl
  refine lv_aload_n C.x C.b dX3_isFalseWith_0 rfl (lv_at hl 0 rfl) ?_
  refine lv_iconst (v := 0) C.x C.b dX3_isFalseWith_1 (by decide) ?_
  obtain ⟨fs_1, q1, q2, h⟩ := h
  refine z_put C hR hS q1 rfl (ci := 3) rfl in_X3 tyX3 tyX3_ok nmX3 29 (by decide) q1666 (fun _ h => h) rfl ⟨rfl, rfl⟩ q2 dX3_isFalseWith_2 (fun H locs hR hS => ?_)
  have h := h _ rfl
  generalize zSo g 3 a0 (fs_1.set 29 (.int 0)) = g_2 at h hR
  refine lv_iconst (v := 0) C.x C.b dX3_isFalseWith_5 (by decide) ?_
  refine lv_istore (lv' := [(4, .int 0), (0, .ref a0), (1, .int x1), (2, .int x2), (3, .int x3)]) C.x C.b dX3_isFalseWith_6 hl (by decide) rfl (fun ls hl => ?_)
  exact h H locs ls hR hS (lv_sub hl [1, 2, 3, 4, 0] rfl)
set_option maxHeartbeats 4000000 in
theorem mX3_isLess {X : zX} {d : Nat} {g : zG} {K : Option Value → zG → Prop} {KX : String → zG → Prop} (hok : zOk X) (x0 : Int32) (x1 : Int32) (h : (((x0 &&& (x0 ^^^ x1)) &&& (-(x0 ^^^ x1))) = 0 → K (some (.int 0)) g) ∧ (¬ ((x0 &&& (x0 ^^^ x1)) &&& (-(x0 ^^^ x1))) = 0 → K (some (.int 1)) g)) : zCal X d yX3_isLess wX3_isLess [.int x0, .int x1] g K KX := by
  refine z_enter hok pn_X3 (Nat.le_of_ble_eq_true rfl) (fun E C hQ => ?_)
  have C : zC X d E RX3 cX3_isLess 3 (some .boolean) "isLess" := C
  show GW X E 3 g 0 [(0, .int x0), (1, .int x1)] []
  intro H locs ls hR hS hl
  refine lv_iload_n C.x C.b dX3_isLess_0 rfl (lv_at hl 0 rfl) ?_
  refine lv_iload_n C.x C.b dX3_isLess_1 rfl (lv_at hl 1 rfl) ?_
  refine lv_ixor C.x C.b dX3_isLess_2 ?_
  refine lv_istore_n (lv' := [(2, .int (x0 ^^^ x1)), (0, .int x0), (1, .int x1)]) C.x C.b dX3_isLess_3 rfl hl (by decide) rfl (fun ls hl => ?_)
  refine lv_iload_n C.x C.b dX3_isLess_4 rfl (lv_at hl 1 rfl) ?_
  refine lv_iload_n C.x C.b dX3_isLess_5 rfl (lv_at hl 0 rfl) ?_
  refine lv_iand C.x C.b dX3_isLess_6 ?_
  refine lv_iload_n C.x C.b dX3_isLess_7 rfl (lv_at hl 0 rfl) ?_
  refine lv_ineg C.x C.b dX3_isLess_8 ?_
  refine lv_iand C.x C.b dX3_isLess_9 ?_
  obtain ⟨h1, h2⟩ := h
  refine lv_if_eq (tgt := 17) C.x C.b dX3_isLess_10 (by decide) (fun c => ?_) (fun c => ?_)
  · have h := h1 c; clear h1 h2
    refine lv_iconst (v := 0) C.x C.b dX3_isLess_17 (by decide) ?_
    exact z_zret C hQ rfl dX3_isLess_18 h H locs ls hR hS hl
  · have h := h2 c; clear h1 h2
    refine lv_iconst (v := 1) C.x C.b dX3_isLess_13 (by decide) ?_
    refine lv_goto (tgt := 18) C.x C.b dX3_isLess_14 (by decide) ?_
    exact z_zret C hQ rfl dX3_isLess_18 h H locs ls hR hS hl
set_option maxHeartbeats 4000000 in
theorem mX3_nextSet {X : zX} {d : Nat} {g : zG} {K : Option Value → zG → Prop} {KX : String → zG → Prop} (hok : zOk X) (x0 : Int32) (h : ¬ (x0 &&& (-x0)) = 0 ∧ (K (some (.int (((((x0 + (x0 &&& (-x0))) ^^^ x0) / (x0 &&& (-x0))) >>> (2 &&& 31)) ||| (x0 + (x0 &&& (-x0)))))) g)) : zCal X d yX3_nextSet wX3_nextSet [.int x0] g K KX := by
  refine z_enter hok pn_X3 (Nat.le_of_ble_eq_true rfl) (fun E C hQ => ?_)
  have C : zC X d E RX3 cX3_nextSet 3 (some .int) "nextSet" := C
  show GW X E 3 g 0 [(0, .int x0)] []
  intro H locs ls hR hS hl
  refine lv_iload_n C.x C.b dX3_nextSet_0 rfl (lv_at hl 0 rfl) ?_
  refine lv_iload_n C.x C.b dX3_nextSet_1 rfl (lv_at hl 0 rfl) ?_
  refine lv_ineg C.x C.b dX3_nextSet_2 ?_
  refine lv_iand C.x C.b dX3_nextSet_3 ?_
  refine lv_istore_n (lv' := [(1, .int (x0 &&& (-x0))), (0, .int x0)]) C.x C.b dX3_nextSet_4 rfl hl (by decide) rfl (fun ls hl => ?_)
  refine lv_iload_n C.x C.b dX3_nextSet_5 rfl (lv_at hl 1 rfl) ?_
  refine lv_iload_n C.x C.b dX3_nextSet_6 rfl (lv_at hl 0 rfl) ?_
  refine lv_iadd C.x C.b dX3_nextSet_7 ?_
  refine lv_istore_n (lv' := [(2, .int (x0 + (x0 &&& (-x0)))), (1, .int (x0 &&& (-x0))), (0, .int x0)]) C.x C.b dX3_nextSet_8 rfl hl (by decide) rfl (fun ls hl => ?_)
  refine lv_iload_n C.x C.b dX3_nextSet_9 rfl (lv_at hl 0 rfl) ?_
  refine lv_iload_n C.x C.b dX3_nextSet_10 rfl (lv_at hl 2 rfl) ?_
  refine lv_ixor C.x C.b dX3_nextSet_11 ?_
  refine lv_iload_n C.x C.b dX3_nextSet_12 rfl (lv_at hl 1 rfl) ?_
  obtain ⟨q1, h⟩ := h
  refine lv_idiv C.x C.b dX3_nextSet_13 q1 ?_
  refine lv_iconst (v := 2) C.x C.b dX3_nextSet_14 (by decide) ?_
  refine lv_ishr C.x C.b dX3_nextSet_15 ?_
  refine lv_iload_n C.x C.b dX3_nextSet_16 rfl (lv_at hl 0 rfl) ?_
  refine lv_ior C.x C.b dX3_nextSet_17 ?_
  exact z_iret C hQ dX3_nextSet_18 h H locs ls hR hS hl
set_option maxHeartbeats 4000000 in
theorem bX3_placeOf_2 {X : zX} {d : Nat} {E : zM} {K : Option Value → zG → Prop} {KX : String → zG → Prop} (C : zC X d E RX3 cX3_placeOf 3 (some .int) "placeOf") (hQ : zQ X E K KX) (g : zG) (a0 : Nat) (x1 : Int32) (x2 : Int32) (h : ∃ (fs_1 : List Value) (a_2 : Nat), zGo g 3 a0 = some fs_1 ∧ fs_1[12]? = some (.ref a_2) ∧ ∃ (n_3 : Nat) (f_4 : Nat → Int32), zGi g 12 a_2 = some (n_3, f_4) ∧ vp_in x2 n_3 ∧ ∀ v_5 : Int32, v_5 = f_4 x2.toNatClampNeg → (v_5 = x1 → K (some (.int x2)) g) ∧ (¬ v_5 = x1 → GW X E 3 g 2 [(0, .ref a0), (1, .int x1), (2, .int (x2 + 1))] [])) : GW X E 3 g 2 [(0, .ref a0), (1, .int x1), (2, .int x2)] [] := by
  intro H locs ls hR hS hl
  refine lv_aload_n C.x C.b dX3_placeOf_2 rfl (lv_at hl 0 rfl) ?_
  obtain ⟨fs_1, a_2, q1, q2, h⟩ := h
  refine z_get C hR q1 rfl (ci := 3) rfl in_X3 12 (by decide) q1649 (fun _ h => h) q2 dX3_placeOf_3 ?_
  refine lv_iload_n C.x C.b dX3_placeOf_6 rfl (lv_at hl 2 rfl) ?_
  obtain ⟨n_3, f_4, q1, q2, h⟩ := h
  refine z_iald C hR q1 (by decide) q2 dX3_placeOf_7 ?_
  have h := h _ rfl
  generalize f_4 x2.toNatClampNeg = v_5 at h ⊢
  refine lv_iload_n C.x C.b dX3_placeOf_8 rfl (lv_at hl 1 rfl) ?_
  obtain ⟨h1, h2⟩ := h
  refine lv_icmp_eq (tgt := 18) C.x C.b dX3_placeOf_9 (by decide) (fun c => ?_) (fun c => ?_)
  · have h := h1 c; clear h1 h2
    refine lv_iload_n C.x C.b dX3_placeOf_18 rfl (lv_at hl 2 rfl) ?_
    exact z_iret C hQ dX3_placeOf_19 h H locs ls hR hS hl
  · have h := h2 c; clear h1 h2
    refine lv_iinc (v := x2 + 1) (lv' := [(2, .int (x2 + 1)), (0, .ref a0), (1, .int x1)]) C.x C.b dX3_placeOf_12 hl (k := 2) rfl rfl (by decide) rfl (fun ls hl => ?_)
    refine lv_goto (tgt := 2) C.x C.b dX3_placeOf_15 (by decide) ?_
    exact h H locs ls hR hS (lv_sub hl [1, 2, 0] rfl)
set_option maxHeartbeats 4000000 in
theorem mX3_placeOf {X : zX} {d : Nat} {g : zG} {K : Option Value → zG → Prop} {KX : String → zG → Prop} (hok : zOk X) (a0 : Nat) (x1 : Int32) (h : ∀ E : zM, zC X d E RX3 cX3_placeOf 3 (some .int) "placeOf" → zQ X E K KX → GW X E 3 g 2 [(0, .ref a0), (1, .int x1), (2, .int 0)] []) : zCal X d yX3_placeOf wX3_placeOf [.ref a0, .int x1] g K KX := by
  refine z_enter hok pn_X3 (Nat.le_of_ble_eq_true rfl) (fun E C hQ => ?_)
  have C : zC X d E RX3 cX3_placeOf 3 (some .int) "placeOf" := C
  have h := h E C hQ
  show GW X E 3 g 0 [(0, .ref a0), (1, .int x1)] []
  intro H locs ls hR hS hl
  refine lv_iconst (v := 0) C.x C.b dX3_placeOf_0 (by decide) ?_
  refine lv_istore_n (lv' := [(2, .int 0), (0, .ref a0), (1, .int x1)]) C.x C.b dX3_placeOf_1 rfl hl (by decide) rfl (fun ls hl => ?_)
  exact h H locs ls hR hS (lv_sub hl [1, 2, 0] rfl)
theorem hdS_X3_isLess : yX3_isLess.cls ≠ "java/lang/invoke/MethodHandle" ∧ yX3_isLess.cls ≠ "java/lang/invoke/VarHandle" ∧ (parseMethodDescriptor yX3_isLess.desc).map (fun d => d.parameters.length) = some 2 := by decide +kernel
theorem hdS_X3_nextSet : yX3_nextSet.cls ≠ "java/lang/invoke/MethodHandle" ∧ yX3_nextSet.cls ≠ "java/lang/invoke/VarHandle" ∧ (parseMethodDescriptor yX3_nextSet.desc).map (fun d => d.parameters.length) = some 1 := by decide +kernel
theorem hdV_X3_isFalseWith : yX3_isFalseWith.cls = RX3 ∧ yX3_isFalseWith.cls ≠ "java/lang/invoke/MethodHandle" ∧ yX3_isFalseWith.cls ≠ "java/lang/invoke/VarHandle" ∧ (parseMethodDescriptor yX3_isFalseWith.desc).map (fun d => d.parameters.length) = some 3 := by decide +kernel
theorem hdV_X3_placeOf : yX3_placeOf.cls = RX3 ∧ yX3_placeOf.cls ≠ "java/lang/invoke/MethodHandle" ∧ yX3_placeOf.cls ≠ "java/lang/invoke/VarHandle" ∧ (parseMethodDescriptor yX3_placeOf.desc).map (fun d => d.parameters.length) = some 1 := by decide +kernel
set_option maxHeartbeats 4000000 in
theorem bX3_least_36 {X : zX} {d : Nat} {E : zM} {K : Option Value → zG → Prop} {KX : String → zG → Prop} (C : zC X (d + 1) E RX3 cX3_least 12 (some .int) "least") (hQ : zQ X E K KX) (g : zG) (a0 : Nat) (x1 : Int32) (x2 : Int32) (x3 : Int32) (x4 : Int32) (x5 : Int32) (x6 : Int32) (x7 : Int32) (x8 : Int32) (h : (x6 < x8 → K (some (.int x4)) g) ∧ (¬ x6 < x8 → (¬ x4 = 0 → K (some (.int x4)) g) ∧ (x4 = 0 → ∃ (fs_1 : List Value) (a_2 : Nat), zGo g 3 a0 = some fs_1 ∧ fs_1[25]? = some (.ref a_2) ∧ ∃ (n_3 : Nat) (f_4 : Nat → Int32), zGi g 25 a_2 = some (n_3, f_4) ∧ vp_in ((80 * x1) + x2) n_3 ∧ ∀ v_5 : Int32, v_5 = f_4 ((80 * x1) + x2).toNatClampNeg → (¬ v_5 = 0 → K (some (.int x4)) g) ∧ (v_5 = 0 → GW X E 12 g 70 [(0, .ref a0), (1, .int x1), (2, .int x2), (3, .int x3), (4, .int x4), (5, .int x5), (6, .int x6), (7, .int x7), (8, .int x8), (9, .int ((1 <<< (x8 &&& 31)) - 1))] [])))) : GW X E 12 g 36 [(0, .ref a0), (1, .int x1), (2, .int x2), (3, .int x3), (4, .int x4), (5, .int x5), (6, .int x6), (7, .int x7), (8, .int x8)] [] := by
  intro H locs ls hR hS hl
  refine lv_iload C.x C.b dX3_least_36 (lv_at hl 8 rfl) ?_
  refine lv_iload C.x C.b dX3_least_38 (lv_at hl 6 rfl) ?_
  obtain ⟨h1, h2⟩ := h
  refine lv_icmp_gt (tgt := 184) C.x C.b dX3_least_40 (by decide) (fun c => ?_) (fun c => ?_)
  · have h := h1 c; clear h1 h2
    refine lv_iload C.x C.b dX3_least_184 (lv_at hl 4 rfl) ?_
    exact z_iret C hQ dX3_least_186 h H locs ls hR hS hl
  · have h := h2 c; clear h1 h2
    refine lv_iload C.x C.b dX3_least_43 (lv_at hl 4 rfl) ?_
    obtain ⟨h1, h2⟩ := h
    refine lv_if_ne (tgt := 184) C.x C.b dX3_least_45 (by decide) (fun c => ?_) (fun c => ?_)
    · have h := h1 c; clear h1 h2
      refine lv_iload C.x C.b dX3_least_184 (lv_at hl 4 rfl) ?_
      exact z_iret C hQ dX3_least_186 h H locs ls hR hS hl
    · have h := h2 c; clear h1 h2
      refine lv_aload_n C.x C.b dX3_least_48 rfl (lv_at hl 0 rfl) ?_
      obtain ⟨fs_1, a_2, q1, q2, h⟩ := h
      refine z_get C hR q1 rfl (ci := 3) rfl in_X3 25 (by decide) q1662 (fun _ h => h) q2 dX3_least_49 ?_
      refine lv_bipush (v := 80) C.x C.b dX3_least_52 (by decide) ?_
      refine lv_iload_n C.x C.b dX3_least_54 rfl (lv_at hl 1 rfl) ?_
      refine lv_imul C.x C.b dX3_least_55 ?_
      refine lv_iload_n C.x C.b dX3_least_56 rfl (lv_at hl 2 rfl) ?_
      refine lv_iadd C.x C.b dX3_least_57 ?_
      obtain ⟨n_3, f_4, q1, q2, h⟩ := h
      refine z_iald C hR q1 (by decide) q2 dX3_least_58 ?_
      have h := h _ rfl
      generalize f_4 ((80 * x1) + x2).toNatClampNeg = v_5 at h ⊢
      obtain ⟨h1, h2⟩ := h
      refine lv_if_ne (tgt := 184) C.x C.b dX3_least_59 (by decide) (fun c => ?_) (fun c => ?_)
      · have h := h1 c; clear h1 h2
        refine lv_iload C.x C.b dX3_least_184 (lv_at hl 4 rfl) ?_
        exact z_iret C hQ dX3_least_186 h H locs ls hR hS hl
      · have h := h2 c; clear h1 h2
        refine lv_iconst (v := 1) C.x C.b dX3_least_62 (by decide) ?_
        refine lv_iload C.x C.b dX3_least_63 (lv_at hl 8 rfl) ?_
        refine lv_ishl C.x C.b dX3_least_65 ?_
        refine lv_iconst (v := 1) C.x C.b dX3_least_66 (by decide) ?_
        refine lv_isub C.x C.b dX3_least_67 ?_
        refine lv_istore (lv' := [(9, .int ((1 <<< (x8 &&& 31)) - 1)), (0, .ref a0), (1, .int x1), (2, .int x2), (3, .int x3), (4, .int x4), (5, .int x5), (6, .int x6), (7, .int x7), (8, .int x8)]) C.x C.b dX3_least_68 hl (by decide) rfl (fun ls hl => ?_)
        exact h H locs ls hR hS (lv_sub hl [1, 2, 3, 4, 5, 6, 7, 8, 9, 0] rfl)
set_option maxHeartbeats 4000000 in
theorem bX3_least_70 {X : zX} {d : Nat} {E : zM} {K : Option Value → zG → Prop} {KX : String → zG → Prop} (C : zC X (d + 1) E RX3 cX3_least 12 (some .int) "least") (hQ : zQ X E K KX) (g : zG) (a0 : Nat) (x1 : Int32) (x2 : Int32) (x3 : Int32) (x4 : Int32) (x5 : Int32) (x6 : Int32) (x7 : Int32) (x8 : Int32) (x9 : Int32) (h : (x7 < x9 → GW X E 12 g 36 [(0, .ref a0), (1, .int x1), (2, .int x2), (3, .int x3), (4, .int x4), (5, .int x5), (6, .int x6), (7, .int x7), (8, .int (x8 + 1))] []) ∧ (¬ x7 < x9 → (¬ (x9 &&& x5) = 0 → GW X E 12 g 90 [(0, .ref a0), (1, .int x1), (2, .int x2), (3, .int x3), (4, .int x4), (5, .int x5), (6, .int x6), (7, .int x7), (8, .int x8), (9, .int x9)] [.int 0]) ∧ ((x9 &&& x5) = 0 → GW X E 12 g 90 [(0, .ref a0), (1, .int x1), (2, .int x2), (3, .int x3), (4, .int x4), (5, .int x5), (6, .int x6), (7, .int x7), (8, .int x8), (9, .int x9)] [.int 1]))) : GW X E 12 g 70 [(0, .ref a0), (1, .int x1), (2, .int x2), (3, .int x3), (4, .int x4), (5, .int x5), (6, .int x6), (7, .int x7), (8, .int x8), (9, .int x9)] [] := by
  intro H locs ls hR hS hl
  refine lv_iload C.x C.b dX3_least_70 (lv_at hl 9 rfl) ?_
  refine lv_iload C.x C.b dX3_least_72 (lv_at hl 7 rfl) ?_
  obtain ⟨h1, h2⟩ := h
  refine lv_icmp_gt (tgt := 178) C.x C.b dX3_least_74 (by decide) (fun c => ?_) (fun c => ?_)
  · have h := h1 c; clear h1 h2
    refine lv_iinc (v := x8 + 1) (lv' := [(8, .int (x8 + 1)), (0, .ref a0), (1, .int x1), (2, .int x2), (3, .int x3), (4, .int x4), (5, .int x5), (6, .int x6), (7, .int x7), (9, .int x9)]) C.x C.b dX3_least_178 hl (k := 8) rfl rfl (by decide) rfl (fun ls hl => ?_)
    refine lv_goto (tgt := 36) C.x C.b dX3_least_181 (by decide) ?_
    exact h H locs ls hR hS (lv_sub hl [1, 2, 3, 4, 5, 6, 7, 8, 0] rfl)
  · have h := h2 c; clear h1 h2
    refine lv_iload C.x C.b dX3_least_77 (lv_at hl 9 rfl) ?_
    refine lv_iload C.x C.b dX3_least_79 (lv_at hl 5 rfl) ?_
    refine lv_iand C.x C.b dX3_least_81 ?_
    obtain ⟨h1, h2⟩ := h
    refine lv_if_ne (tgt := 89) C.x C.b dX3_least_82 (by decide) (fun c => ?_) (fun c => ?_)
    · have h := h1 c; clear h1 h2
      refine lv_iconst (v := 0) C.x C.b dX3_least_89 (by decide) ?_
      exact h H locs ls hR hS (lv_sub hl [0, 1, 2, 3, 4, 5, 6, 7, 8, 9] rfl)
    · have h := h2 c; clear h1 h2
      refine lv_iconst (v := 1) C.x C.b dX3_least_85 (by decide) ?_
      refine lv_goto (tgt := 90) C.x C.b dX3_least_86 (by decide) ?_
      exact h H locs ls hR hS (lv_sub hl [0, 1, 2, 3, 4, 5, 6, 7, 8, 9] rfl)
set_option maxHeartbeats 4000000 in
theorem bX3_least_90 {X : zX} {d : Nat} {E : zM} {K : Option Value → zG → Prop} {KX : String → zG → Prop} (C : zC X (d + 1) E RX3 cX3_least 12 (some .int) "least") (hQ : zQ X E K KX) (g : zG) (a0 : Nat) (x1 : Int32) (x2 : Int32) (x3 : Int32) (x4 : Int32) (x5 : Int32) (x6 : Int32) (x7 : Int32) (x8 : Int32) (x9 : Int32) (t0 : Int32) (h : (¬ t0 = x3 → GW X E 12 g 113 [(0, .ref a0), (1, .int x1), (2, .int x2), (3, .int x3), (4, .int x4), (5, .int x5), (6, .int x6), (7, .int x7), (8, .int x8), (9, .int x9)] []) ∧ (t0 = x3 → (x4 = 0 → GW X E 12 g 109 [(0, .ref a0), (1, .int x1), (2, .int x2), (3, .int x3), (4, .int x4), (5, .int x5), (6, .int x6), (7, .int x7), (8, .int x8), (9, .int x9)] []) ∧ (¬ x4 = 0 → zCal X d yX3_isLess wX3_isLess [.int x9, .int x4] g (fun r g_1 => ∃ v_2 : Int32, r = some (.int v_2) ∧ zbo v_2 ∧ (v_2 = 0 → GW X E 12 g_1 113 [(0, .ref a0), (1, .int x1), (2, .int x2), (3, .int x3), (4, .int x4), (5, .int x5), (6, .int x6), (7, .int x7), (8, .int x8), (9, .int x9)] []) ∧ (¬ v_2 = 0 → GW X E 12 g_1 109 [(0, .ref a0), (1, .int x1), (2, .int x2), (3, .int x3), (4, .int x4), (5, .int x5), (6, .int x6), (7, .int x7), (8, .int x8), (9, .int x9)] [])) KX))) : GW X E 12 g 90 [(0, .ref a0), (1, .int x1), (2, .int x2), (3, .int x3), (4, .int x4), (5, .int x5), (6, .int x6), (7, .int x7), (8, .int x8), (9, .int x9)] [.int t0] := by
  intro H locs ls hR hS hl
  refine lv_iload_n C.x C.b dX3_least_90 rfl (lv_at hl 3 rfl) ?_
  obtain ⟨h1, h2⟩ := h
  refine lv_icmp_ne (tgt := 113) C.x C.b dX3_least_91 (by decide) (fun c => ?_) (fun c => ?_)
  · have h := h1 c; clear h1 h2
    exact h H locs ls hR hS (lv_sub hl [0, 1, 2, 3, 4, 5, 6, 7, 8, 9] rfl)
  · have h := h2 c; clear h1 h2
    refine lv_iload C.x C.b dX3_least_94 (lv_at hl 4 rfl) ?_
    obtain ⟨h1, h2⟩ := h
    refine lv_if_eq (tgt := 109) C.x C.b dX3_least_96 (by decide) (fun c => ?_) (fun c => ?_)
    · have h := h1 c; clear h1 h2
      exact h H locs ls hR hS (lv_sub hl [0, 1, 2, 3, 4, 5, 6, 7, 8, 9] rfl)
    · have h := h2 c; clear h1 h2
      refine lv_iload C.x C.b dX3_least_99 (lv_at hl 9 rfl) ?_
      refine lv_iload C.x C.b dX3_least_101 (lv_at hl 4 rfl) ?_
      refine z_callS C hR hS hl (n := 2) (y := yX3_isLess) (bytes := cX3_isLess) (maxL := 3) (rt := (some .boolean)) (As := [.int x9, .int x4]) (rest := []) (lw_S q2113 q2114 q82 q2115) hdS_X3_isLess (by decide) rfl rfl (Nat.le_of_ble_eq_true rfl) dX3_least_103 h (fun r g_1 hk_ => ?_) (fun x g1 h => z_out C hQ h)
      clear h; obtain ⟨v_2, rfl, zb_, h⟩ := hk_
      show GW X E 12 g_1 106 [(0, .ref a0), (1, .int x1), (2, .int x2), (3, .int x3), (4, .int x4), (5, .int x5), (6, .int x6), (7, .int x7), (8, .int x8), (9, .int x9)] [.int v_2]
      intro H locs ls hR hS hl
      obtain ⟨h1, h2⟩ := h
      refine lv_if_eq (tgt := 113) C.x C.b dX3_least_106 (by decide) (fun c => ?_) (fun c => ?_)
      · have h := h1 c; clear h1 h2
        exact h H locs ls hR hS (lv_sub hl [0, 1, 2, 3, 4, 5, 6, 7, 8, 9] rfl)
      · have h := h2 c; clear h1 h2
        exact h H locs ls hR hS (lv_sub hl [0, 1, 2, 3, 4, 5, 6, 7, 8, 9] rfl)
set_option maxHeartbeats 4000000 in
theorem bX3_least_109 {X : zX} {d : Nat} {E : zM} {K : Option Value → zG → Prop} {KX : String → zG → Prop} (C : zC X (d + 1) E RX3 cX3_least 12 (some .int) "least") (hQ : zQ X E K KX) (g : zG) (a0 : Nat) (x1 : Int32) (x2 : Int32) (x3 : Int32) (x4 : Int32) (x5 : Int32) (x6 : Int32) (x7 : Int32) (x8 : Int32) (x9 : Int32) (h : GW X E 12 g 114 [(0, .ref a0), (1, .int x1), (2, .int x2), (3, .int x3), (4, .int x4), (5, .int x5), (6, .int x6), (7, .int x7), (8, .int x8), (9, .int x9)] [.int 1]) : GW X E 12 g 109 [(0, .ref a0), (1, .int x1), (2, .int x2), (3, .int x3), (4, .int x4), (5, .int x5), (6, .int x6), (7, .int x7), (8, .int x8), (9, .int x9)] [] := by
  intro H locs ls hR hS hl
  refine lv_iconst (v := 1) C.x C.b dX3_least_109 (by decide) ?_
  refine lv_goto (tgt := 114) C.x C.b dX3_least_110 (by decide) ?_
  exact h H locs ls hR hS (lv_sub hl [0, 1, 2, 3, 4, 5, 6, 7, 8, 9] rfl)
set_option maxHeartbeats 4000000 in
theorem bX3_least_113 {X : zX} {d : Nat} {E : zM} {K : Option Value → zG → Prop} {KX : String → zG → Prop} (C : zC X (d + 1) E RX3 cX3_least 12 (some .int) "least") (hQ : zQ X E K KX) (g : zG) (a0 : Nat) (x1 : Int32) (x2 : Int32) (x3 : Int32) (x4 : Int32) (x5 : Int32) (x6 : Int32) (x7 : Int32) (x8 : Int32) (x9 : Int32) (h : GW X E 12 g 114 [(0, .ref a0), (1, .int x1), (2, .int x2), (3, .int x3), (4, .int x4), (5, .int x5), (6, .int x6), (7, .int x7), (8, .int x8), (9, .int x9)] [.int 0]) : GW X E 12 g 113 [(0, .ref a0), (1, .int x1), (2, .int x2), (3, .int x3), (4, .int x4), (5, .int x5), (6, .int x6), (7, .int x7), (8, .int x8), (9, .int x9)] [] := by
  intro H locs ls hR hS hl
  refine lv_iconst (v := 0) C.x C.b dX3_least_113 (by decide) ?_
  exact h H locs ls hR hS (lv_sub hl [0, 1, 2, 3, 4, 5, 6, 7, 8, 9] rfl)
set_option maxHeartbeats 4000000 in
theorem bX3_least_114 {X : zX} {d : Nat} {E : zM} {K : Option Value → zG → Prop} {KX : String → zG → Prop} (C : zC X (d + 1) E RX3 cX3_least 12 (some .int) "least") (hQ : zQ X E K KX) (g : zG) (a0 : Nat) (x1 : Int32) (x2 : Int32) (x3 : Int32) (x4 : Int32) (x5 : Int32) (x6 : Int32) (x7 : Int32) (x8 : Int32) (x9 : Int32) (t0 : Int32) (h : (t0 = 0 → GW X E 12 g 151 [(0, .ref a0), (1, .int x1), (2, .int x2), (3, .int x3), (4, .int x4), (5, .int x5), (6, .int x6), (7, .int x7), (8, .int x8), (9, .int x9)] []) ∧ (¬ t0 = 0 → (x3 = 0 → GW X E 12 g 140 [(0, .ref a0), (1, .int x1), (2, .int x2), (3, .int x3), (4, .int x4), (5, .int x5), (6, .int x6), (7, .int x7), (8, .int x8), (9, .int x9)] [.int x9, .int x2, .int x1, .ref a0]) ∧ (¬ x3 = 0 → GW X E 12 g 140 [(0, .ref a0), (1, .int x1), (2, .int x2), (3, .int x3), (4, .int x4), (5, .int x5), (6, .int x6), (7, .int x7), (8, .int x8), (9, .int x9)] [.int (x7 &&& (x9 ^^^ (-1))), .int x2, .int x1, .ref a0]))) : GW X E 12 g 114 [(0, .ref a0), (1, .int x1), (2, .int x2), (3, .int x3), (4, .int x4), (5, .int x5), (6, .int x6), (7, .int x7), (8, .int x8), (9, .int x9)] [.int t0] := by
  intro H locs ls hR hS hl
  refine lv_istore (lv' := [(10, .int t0), (0, .ref a0), (1, .int x1), (2, .int x2), (3, .int x3), (4, .int x4), (5, .int x5), (6, .int x6), (7, .int x7), (8, .int x8), (9, .int x9)]) C.x C.b dX3_least_114 hl (by decide) rfl (fun ls hl => ?_)
  refine lv_iload C.x C.b dX3_least_116 (lv_at hl 0 rfl) ?_
  obtain ⟨h1, h2⟩ := h
  refine lv_if_eq (tgt := 151) C.x C.b dX3_least_118 (by decide) (fun c => ?_) (fun c => ?_)
  · have h := h1 c; clear h1 h2
    exact h H locs ls hR hS (lv_sub hl [1, 2, 3, 4, 5, 6, 7, 8, 9, 10] rfl)
  · have h := h2 c; clear h1 h2
    refine lv_aload_n C.x C.b dX3_least_121 rfl (lv_at hl 1 rfl) ?_
    refine lv_iload_n C.x C.b dX3_least_122 rfl (lv_at hl 2 rfl) ?_
    refine lv_iload_n C.x C.b dX3_least_123 rfl (lv_at hl 3 rfl) ?_
    refine lv_iload_n C.x C.b dX3_least_124 rfl (lv_at hl 4 rfl) ?_
    obtain ⟨h1, h2⟩ := h
    refine lv_if_eq (tgt := 138) C.x C.b dX3_least_125 (by decide) (fun c => ?_) (fun c => ?_)
    · have h := h1 c; clear h1 h2
      refine lv_iload C.x C.b dX3_least_138 (lv_at hl 10 rfl) ?_
      exact h H locs ls hR hS (lv_sub hl [1, 2, 3, 4, 5, 6, 7, 8, 9, 10] rfl)
    · have h := h2 c; clear h1 h2
      refine lv_iload C.x C.b dX3_least_128 (lv_at hl 8 rfl) ?_
      refine lv_iload C.x C.b dX3_least_130 (lv_at hl 10 rfl) ?_
      refine lv_iconst (v := (-1)) C.x C.b dX3_least_132 (by decide) ?_
      refine lv_ixor C.x C.b dX3_least_133 ?_
      refine lv_iand C.x C.b dX3_least_134 ?_
      refine lv_goto (tgt := 140) C.x C.b dX3_least_135 (by decide) ?_
      exact h H locs ls hR hS (lv_sub hl [1, 2, 3, 4, 5, 6, 7, 8, 9, 10] rfl)
set_option maxHeartbeats 4000000 in
theorem bX3_least_140 {X : zX} {d : Nat} {E : zM} {K : Option Value → zG → Prop} {KX : String → zG → Prop} (C : zC X (d + 1) E RX3 cX3_least 12 (some .int) "least") (hQ : zQ X E K KX) (g : zG) (a0 : Nat) (x1 : Int32) (x2 : Int32) (x3 : Int32) (x4 : Int32) (x5 : Int32) (x6 : Int32) (x7 : Int32) (x8 : Int32) (x9 : Int32) (b0 : Nat) (t1 : Int32) (t2 : Int32) (t3 : Int32) (h : zIs g 3 b0 ∧ zCal X d yX3_isFalseWith wX3_isFalseWith [.ref b0, .int t1, .int t2, .int t3] g (fun r g_1 => ∃ v_2 : Int32, r = some (.int v_2) ∧ zbo v_2 ∧ (v_2 = x3 → GW X E 12 g_1 151 [(0, .ref a0), (1, .int x1), (2, .int x2), (3, .int x3), (4, .int x4), (5, .int x5), (6, .int x6), (7, .int x7), (8, .int x8), (9, .int x9)] []) ∧ (¬ v_2 = x3 → zCal X d yX3_nextSet wX3_nextSet [.int x9] g_1 (fun r g_3 => ∃ v_4 : Int32, r = some (.int v_4) ∧ GW X E 12 g_3 70 [(0, .ref a0), (1, .int x1), (2, .int x2), (3, .int x3), (4, .int x9), (5, .int x5), (6, .int x6), (7, .int x7), (8, .int x8), (9, .int v_4)] []) KX)) KX) : GW X E 12 g 140 [(0, .ref a0), (1, .int x1), (2, .int x2), (3, .int x3), (4, .int x4), (5, .int x5), (6, .int x6), (7, .int x7), (8, .int x8), (9, .int x9)] [.int t3, .int t2, .int t1, .ref b0] := by
  intro H locs ls hR hS hl
  refine z_callV C hR hS hl (n := 3) (C1 := RX3) (T := TX3) (N := 35) (ci := 3) (y := yX3_isFalseWith) (bytes := cX3_isFalseWith) (maxL := 5) (rt := (some .boolean)) (As := [.int t1, .int t2, .int t3]) (rest := []) h.1 rfl (lw_V q2116 q2118 qs70 q82 q2119) hdV_X3_isFalseWith (by decide) rfl rfl (Nat.le_of_ble_eq_true rfl) dX3_least_140 h.2 (fun r g_1 hk_ => ?_) (fun x g1 h => z_out C hQ h)
  clear h; obtain ⟨v_2, rfl, zb_, h⟩ := hk_
  show GW X E 12 g_1 143 [(0, .ref a0), (1, .int x1), (2, .int x2), (3, .int x3), (4, .int x4), (5, .int x5), (6, .int x6), (7, .int x7), (8, .int x8), (9, .int x9)] [.int v_2]
  intro H locs ls hR hS hl
  refine lv_iload_n C.x C.b dX3_least_143 rfl (lv_at hl 3 rfl) ?_
  obtain ⟨h1, h2⟩ := h
  refine lv_icmp_eq (tgt := 151) C.x C.b dX3_least_144 (by decide) (fun c => ?_) (fun c => ?_)
  · have h := h1 c; clear h1 h2
    exact h H locs ls hR hS (lv_sub hl [0, 1, 2, 3, 4, 5, 6, 7, 8, 9] rfl)
  · have h := h2 c; clear h1 h2
    refine lv_iconst (v := 1) C.x C.b dX3_least_147 (by decide) ?_
    refine lv_goto (tgt := 152) C.x C.b dX3_least_148 (by decide) ?_
    refine lv_istore (lv' := [(11, .int 1), (0, .ref a0), (1, .int x1), (2, .int x2), (3, .int x3), (4, .int x4), (5, .int x5), (6, .int x6), (7, .int x7), (8, .int x8), (9, .int x9)]) C.x C.b dX3_least_152 hl (by decide) rfl (fun ls hl => ?_)
    refine lv_iload C.x C.b dX3_least_154 (lv_at hl 0 rfl) ?_
    refine lv_if_eq (tgt := 164) C.x C.b dX3_least_156 (by decide) (fun c => absurd c (by decide)) (fun _ => ?_)
    refine lv_iload C.x C.b dX3_least_159 (lv_at hl 10 rfl) ?_
    refine lv_goto (tgt := 166) C.x C.b dX3_least_161 (by decide) ?_
    refine lv_istore (lv' := [(4, .int x9), (11, .int 1), (0, .ref a0), (1, .int x1), (2, .int x2), (3, .int x3), (5, .int x5), (6, .int x6), (7, .int x7), (8, .int x8), (9, .int x9)]) C.x C.b dX3_least_166 hl (by decide) rfl (fun ls hl => ?_)
    refine lv_iload C.x C.b dX3_least_168 (lv_at hl 10 rfl) ?_
    refine z_callS C hR hS hl (n := 1) (y := yX3_nextSet) (bytes := cX3_nextSet) (maxL := 3) (rt := (some .int)) (As := [.int x9]) (rest := []) (lw_S q2120 q2121 q82 q2122) hdS_X3_nextSet (by decide) rfl rfl (Nat.le_of_ble_eq_true rfl) dX3_least_170 h (fun r g_3 hk_ => ?_) (fun x g1 h => z_out C hQ h)
    clear h; obtain ⟨v_4, rfl, h⟩ := hk_
    show GW X E 12 g_3 173 [(4, .int x9), (11, .int 1), (0, .ref a0), (1, .int x1), (2, .int x2), (3, .int x3), (5, .int x5), (6, .int x6), (7, .int x7), (8, .int x8), (9, .int x9)] [.int v_4]
    intro H locs ls hR hS hl
    refine lv_istore (lv' := [(9, .int v_4), (4, .int x9), (11, .int 1), (0, .ref a0), (1, .int x1), (2, .int x2), (3, .int x3), (5, .int x5), (6, .int x6), (7, .int x7), (8, .int x8)]) C.x C.b dX3_least_173 hl (by decide) rfl (fun ls hl => ?_)
    refine lv_goto (tgt := 70) C.x C.b dX3_least_175 (by decide) ?_
    exact h H locs ls hR hS (lv_sub hl [3, 4, 5, 6, 1, 7, 8, 9, 10, 0] rfl)
set_option maxHeartbeats 4000000 in
theorem bX3_least_151 {X : zX} {d : Nat} {E : zM} {K : Option Value → zG → Prop} {KX : String → zG → Prop} (C : zC X (d + 1) E RX3 cX3_least 12 (some .int) "least") (hQ : zQ X E K KX) (g : zG) (a0 : Nat) (x1 : Int32) (x2 : Int32) (x3 : Int32) (x4 : Int32) (x5 : Int32) (x6 : Int32) (x7 : Int32) (x8 : Int32) (x9 : Int32) (h : zCal X d yX3_nextSet wX3_nextSet [.int x9] g (fun r g_1 => ∃ v_2 : Int32, r = some (.int v_2) ∧ GW X E 12 g_1 70 [(0, .ref a0), (1, .int x1), (2, .int x2), (3, .int x3), (4, .int x4), (5, .int x5), (6, .int x6), (7, .int x7), (8, .int x8), (9, .int v_2)] []) KX) : GW X E 12 g 151 [(0, .ref a0), (1, .int x1), (2, .int x2), (3, .int x3), (4, .int x4), (5, .int x5), (6, .int x6), (7, .int x7), (8, .int x8), (9, .int x9)] [] := by
  intro H locs ls hR hS hl
  refine lv_iconst (v := 0) C.x C.b dX3_least_151 (by decide) ?_
  refine lv_istore (lv' := [(11, .int 0), (0, .ref a0), (1, .int x1), (2, .int x2), (3, .int x3), (4, .int x4), (5, .int x5), (6, .int x6), (7, .int x7), (8, .int x8), (9, .int x9)]) C.x C.b dX3_least_152 hl (by decide) rfl (fun ls hl => ?_)
  refine lv_iload C.x C.b dX3_least_154 (lv_at hl 0 rfl) ?_
  refine lv_if_eq (tgt := 164) C.x C.b dX3_least_156 (by decide) (fun _ => ?_) (fun c => absurd c (by decide))
  refine lv_iload C.x C.b dX3_least_164 (lv_at hl 5 rfl) ?_
  refine lv_istore (lv' := [(4, .int x4), (11, .int 0), (0, .ref a0), (1, .int x1), (2, .int x2), (3, .int x3), (5, .int x5), (6, .int x6), (7, .int x7), (8, .int x8), (9, .int x9)]) C.x C.b dX3_least_166 hl (by decide) rfl (fun ls hl => ?_)
  refine lv_iload C.x C.b dX3_least_168 (lv_at hl 10 rfl) ?_
  refine z_callS C hR hS hl (n := 1) (y := yX3_nextSet) (bytes := cX3_nextSet) (maxL := 3) (rt := (some .int)) (As := [.int x9]) (rest := []) (lw_S q2120 q2121 q82 q2122) hdS_X3_nextSet (by decide) rfl rfl (Nat.le_of_ble_eq_true rfl) dX3_least_170 h (fun r g_1 hk_ => ?_) (fun x g1 h => z_out C hQ h)
  clear h; obtain ⟨v_2, rfl, h⟩ := hk_
  show GW X E 12 g_1 173 [(4, .int x4), (11, .int 0), (0, .ref a0), (1, .int x1), (2, .int x2), (3, .int x3), (5, .int x5), (6, .int x6), (7, .int x7), (8, .int x8), (9, .int x9)] [.int v_2]
  intro H locs ls hR hS hl
  refine lv_istore (lv' := [(9, .int v_2), (4, .int x4), (11, .int 0), (0, .ref a0), (1, .int x1), (2, .int x2), (3, .int x3), (5, .int x5), (6, .int x6), (7, .int x7), (8, .int x8)]) C.x C.b dX3_least_173 hl (by decide) rfl (fun ls hl => ?_)
  refine lv_goto (tgt := 70) C.x C.b dX3_least_175 (by decide) ?_
  exact h H locs ls hR hS (lv_sub hl [3, 4, 5, 6, 1, 7, 8, 9, 10, 0] rfl)
set_option maxHeartbeats 4000000 in
theorem mX3_least {X : zX} {d : Nat} {g : zG} {K : Option Value → zG → Prop} {KX : String → zG → Prop} (hok : zOk X) (a0 : Nat) (x1 : Int32) (x2 : Int32) (x3 : Int32) (h : ∀ E : zM, zC X (d + 1) E RX3 cX3_least 12 (some .int) "least" → zQ X E K KX → zIs g 3 a0 ∧ zCal X d yX3_placeOf wX3_placeOf [.ref a0, .int x2] g (fun r g_1 => ∃ v_2 : Int32, r = some (.int v_2) ∧ (x3 = 0 → ∃ (fs_3 : List Value) (v_4 : Int32), zGo g_1 3 a0 = some fs_3 ∧ fs_3[3]? = some (.int v_4) ∧ GW X E 12 g_1 36 [(0, .ref a0), (1, .int x1), (2, .int x2), (3, .int x3), (4, .int 0), (5, .int (1 <<< (v_2 &&& 31))), (6, .int 4), (7, .int ((1 <<< (v_4 &&& 31)) - 1)), (8, .int 1)] []) ∧ (¬ x3 = 0 → ∃ (fs_5 : List Value) (v_6 : Int32), zGo g_1 3 a0 = some fs_5 ∧ fs_5[3]? = some (.int v_6) ∧ GW X E 12 g_1 36 [(0, .ref a0), (1, .int x1), (2, .int x2), (3, .int x3), (4, .int 0), (5, .int (1 <<< (v_2 &&& 31))), (6, .int 3), (7, .int ((1 <<< (v_6 &&& 31)) - 1)), (8, .int 1)] [])) KX) : zCal X (d + 1) yX3_least wX3_least [.ref a0, .int x1, .int x2, .int x3] g K KX := by
  refine z_enter hok pn_X3 (Nat.le_of_ble_eq_true rfl) (fun E C hQ => ?_)
  have C : zC X (d + 1) E RX3 cX3_least 12 (some .int) "least" := C
  have h := h E C hQ
  show GW X E 12 g 0 [(0, .ref a0), (1, .int x1), (2, .int x2), (3, .int x3)] []
  intro H locs ls hR hS hl
  refine lv_iconst (v := 0) C.x C.b dX3_least_0 (by decide) ?_
  refine lv_istore (lv' := [(4, .int 0), (0, .ref a0), (1, .int x1), (2, .int x2), (3, .int x3)]) C.x C.b dX3_least_1 hl (by decide) rfl (fun ls hl => ?_)
  refine lv_iconst (v := 1) C.x C.b dX3_least_3 (by decide) ?_
  refine lv_aload_n C.x C.b dX3_least_4 rfl (lv_at hl 1 rfl) ?_
  refine lv_iload_n C.x C.b dX3_least_5 rfl (lv_at hl 3 rfl) ?_
  refine z_callV C hR hS hl (n := 1) (C1 := RX3) (T := TX3) (N := 35) (ci := 3) (y := yX3_placeOf) (bytes := cX3_placeOf) (maxL := 3) (rt := (some .int)) (As := [.int x2]) (rest := [.int 1]) h.1 rfl (lw_V q2109 q2111 qs69 q82 q2112) hdV_X3_placeOf (by decide) rfl rfl (Nat.le_of_ble_eq_true rfl) dX3_least_6 h.2 (fun r g_1 hk_ => ?_) (fun x g1 h => z_out C hQ h)
  clear h; obtain ⟨v_2, rfl, h⟩ := hk_
  show GW X E 12 g_1 9 [(4, .int 0), (0, .ref a0), (1, .int x1), (2, .int x2), (3, .int x3)] [.int v_2, .int 1]
  intro H locs ls hR hS hl
  refine lv_ishl C.x C.b dX3_least_9 ?_
  refine lv_istore (lv' := [(5, .int (1 <<< (v_2 &&& 31))), (4, .int 0), (0, .ref a0), (1, .int x1), (2, .int x2), (3, .int x3)]) C.x C.b dX3_least_10 hl (by decide) rfl (fun ls hl => ?_)
  refine lv_iload_n C.x C.b dX3_least_12 rfl (lv_at hl 5 rfl) ?_
  obtain ⟨h1, h2⟩ := h
  refine lv_if_eq (tgt := 20) C.x C.b dX3_least_13 (by decide) (fun c => ?_) (fun c => ?_)
  · have h := h1 c; clear h1 h2
    refine lv_iconst (v := 4) C.x C.b dX3_least_20 (by decide) ?_
    refine lv_istore (lv' := [(6, .int 4), (5, .int (1 <<< (v_2 &&& 31))), (4, .int 0), (0, .ref a0), (1, .int x1), (2, .int x2), (3, .int x3)]) C.x C.b dX3_least_21 hl (by decide) rfl (fun ls hl => ?_)
    refine lv_iconst (v := 1) C.x C.b dX3_least_23 (by decide) ?_
    refine lv_aload_n C.x C.b dX3_least_24 rfl (lv_at hl 3 rfl) ?_
    obtain ⟨fs_3, v_4, q1, q2, h⟩ := h
    refine z_get C hR q1 rfl (ci := 3) rfl in_X3 3 (by decide) q1640 (fun _ h => h) q2 dX3_least_25 ?_
    refine lv_ishl C.x C.b dX3_least_28 ?_
    refine lv_iconst (v := 1) C.x C.b dX3_least_29 (by decide) ?_
    refine lv_isub C.x C.b dX3_least_30 ?_
    refine lv_istore (lv' := [(7, .int ((1 <<< (v_4 &&& 31)) - 1)), (6, .int 4), (5, .int (1 <<< (v_2 &&& 31))), (4, .int 0), (0, .ref a0), (1, .int x1), (2, .int x2), (3, .int x3)]) C.x C.b dX3_least_31 hl (by decide) rfl (fun ls hl => ?_)
    refine lv_iconst (v := 1) C.x C.b dX3_least_33 (by decide) ?_
    refine lv_istore (lv' := [(8, .int 1), (7, .int ((1 <<< (v_4 &&& 31)) - 1)), (6, .int 4), (5, .int (1 <<< (v_2 &&& 31))), (4, .int 0), (0, .ref a0), (1, .int x1), (2, .int x2), (3, .int x3)]) C.x C.b dX3_least_34 hl (by decide) rfl (fun ls hl => ?_)
    exact h H locs ls hR hS (lv_sub hl [5, 6, 7, 8, 4, 3, 2, 1, 0] rfl)
  · have h := h2 c; clear h1 h2
    refine lv_iconst (v := 3) C.x C.b dX3_least_16 (by decide) ?_
    refine lv_goto (tgt := 21) C.x C.b dX3_least_17 (by decide) ?_
    refine lv_istore (lv' := [(6, .int 3), (5, .int (1 <<< (v_2 &&& 31))), (4, .int 0), (0, .ref a0), (1, .int x1), (2, .int x2), (3, .int x3)]) C.x C.b dX3_least_21 hl (by decide) rfl (fun ls hl => ?_)
    refine lv_iconst (v := 1) C.x C.b dX3_least_23 (by decide) ?_
    refine lv_aload_n C.x C.b dX3_least_24 rfl (lv_at hl 3 rfl) ?_
    obtain ⟨fs_5, v_6, q1, q2, h⟩ := h
    refine z_get C hR q1 rfl (ci := 3) rfl in_X3 3 (by decide) q1640 (fun _ h => h) q2 dX3_least_25 ?_
    refine lv_ishl C.x C.b dX3_least_28 ?_
    refine lv_iconst (v := 1) C.x C.b dX3_least_29 (by decide) ?_
    refine lv_isub C.x C.b dX3_least_30 ?_
    refine lv_istore (lv' := [(7, .int ((1 <<< (v_6 &&& 31)) - 1)), (6, .int 3), (5, .int (1 <<< (v_2 &&& 31))), (4, .int 0), (0, .ref a0), (1, .int x1), (2, .int x2), (3, .int x3)]) C.x C.b dX3_least_31 hl (by decide) rfl (fun ls hl => ?_)
    refine lv_iconst (v := 1) C.x C.b dX3_least_33 (by decide) ?_
    refine lv_istore (lv' := [(8, .int 1), (7, .int ((1 <<< (v_6 &&& 31)) - 1)), (6, .int 3), (5, .int (1 <<< (v_2 &&& 31))), (4, .int 0), (0, .ref a0), (1, .int x1), (2, .int x2), (3, .int x3)]) C.x C.b dX3_least_34 hl (by decide) rfl (fun ls hl => ?_)
    exact h H locs ls hR hS (lv_sub hl [5, 6, 7, 8, 4, 3, 2, 1, 0] rfl)
set_option maxHeartbeats 4000000 in
theorem bX3_ones_4 {X : zX} {d : Nat} {E : zM} {K : Option Value → zG → Prop} {KX : String → zG → Prop} (C : zC X d E RX3 cX3_ones 3 (some .int) "ones") (hQ : zQ X E K KX) (g : zG) (x0 : Int32) (x1 : Int32) (x2 : Int32) (h : (16 ≤ x2 → K (some (.int x1)) g) ∧ (¬ 16 ≤ x2 → GW X E 3 g 4 [(0, .int x0), (1, .int (x1 + ((x0 >>> (x2 &&& 31)) &&& 1))), (2, .int (x2 + 1))] [])) : GW X E 3 g 4 [(0, .int x0), (1, .int x1), (2, .int x2)] [] := by
  intro H locs ls hR hS hl
  refine lv_iload_n C.x C.b dX3_ones_4 rfl (lv_at hl 2 rfl) ?_
  refine lv_bipush (v := 16) C.x C.b dX3_ones_5 (by decide) ?_
  obtain ⟨h1, h2⟩ := h
  refine lv_icmp_ge (tgt := 24) C.x C.b dX3_ones_7 (by decide) (fun c => ?_) (fun c => ?_)
  · have h := h1 c; clear h1 h2
    refine lv_iload_n C.x C.b dX3_ones_24 rfl (lv_at hl 1 rfl) ?_
    exact z_iret C hQ dX3_ones_25 h H locs ls hR hS hl
  · have h := h2 c; clear h1 h2
    refine lv_iload_n C.x C.b dX3_ones_10 rfl (lv_at hl 1 rfl) ?_
    refine lv_iload_n C.x C.b dX3_ones_11 rfl (lv_at hl 0 rfl) ?_
    refine lv_iload_n C.x C.b dX3_ones_12 rfl (lv_at hl 2 rfl) ?_
    refine lv_ishr C.x C.b dX3_ones_13 ?_
    refine lv_iconst (v := 1) C.x C.b dX3_ones_14 (by decide) ?_
    refine lv_iand C.x C.b dX3_ones_15 ?_
    refine lv_iadd C.x C.b dX3_ones_16 ?_
    refine lv_istore_n (lv' := [(1, .int (x1 + ((x0 >>> (x2 &&& 31)) &&& 1))), (0, .int x0), (2, .int x2)]) C.x C.b dX3_ones_17 rfl hl (by decide) rfl (fun ls hl => ?_)
    refine lv_iinc (v := x2 + 1) (lv' := [(2, .int (x2 + 1)), (1, .int (x1 + ((x0 >>> (x2 &&& 31)) &&& 1))), (0, .int x0)]) C.x C.b dX3_ones_18 hl (k := 2) rfl rfl (by decide) rfl (fun ls hl => ?_)
    refine lv_goto (tgt := 4) C.x C.b dX3_ones_21 (by decide) ?_
    exact h H locs ls hR hS (lv_sub hl [2, 1, 0] rfl)
set_option maxHeartbeats 4000000 in
theorem mX3_ones {X : zX} {d : Nat} {g : zG} {K : Option Value → zG → Prop} {KX : String → zG → Prop} (hok : zOk X) (x0 : Int32) (h : ∀ E : zM, zC X d E RX3 cX3_ones 3 (some .int) "ones" → zQ X E K KX → GW X E 3 g 4 [(0, .int x0), (1, .int 0), (2, .int 0)] []) : zCal X d yX3_ones wX3_ones [.int x0] g K KX := by
  refine z_enter hok pn_X3 (Nat.le_of_ble_eq_true rfl) (fun E C hQ => ?_)
  have C : zC X d E RX3 cX3_ones 3 (some .int) "ones" := C
  have h := h E C hQ
  show GW X E 3 g 0 [(0, .int x0)] []
  intro H locs ls hR hS hl
  refine lv_iconst (v := 0) C.x C.b dX3_ones_0 (by decide) ?_
  refine lv_istore_n (lv' := [(1, .int 0), (0, .int x0)]) C.x C.b dX3_ones_1 rfl hl (by decide) rfl (fun ls hl => ?_)
  refine lv_iconst (v := 0) C.x C.b dX3_ones_2 (by decide) ?_
  refine lv_istore_n (lv' := [(2, .int 0), (1, .int 0), (0, .int x0)]) C.x C.b dX3_ones_3 rfl hl (by decide) rfl (fun ls hl => ?_)
  exact h H locs ls hR hS (lv_sub hl [2, 1, 0] rfl)
theorem hdS_X3_ones : yX3_ones.cls ≠ "java/lang/invoke/MethodHandle" ∧ yX3_ones.cls ≠ "java/lang/invoke/VarHandle" ∧ (parseMethodDescriptor yX3_ones.desc).map (fun d => d.parameters.length) = some 1 := by decide +kernel
theorem hdV_X3_least : yX3_least.cls = RX3 ∧ yX3_least.cls ≠ "java/lang/invoke/MethodHandle" ∧ yX3_least.cls ≠ "java/lang/invoke/VarHandle" ∧ (parseMethodDescriptor yX3_least.desc).map (fun d => d.parameters.length) = some 3 := by decide +kernel
set_option maxHeartbeats 4000000 in
theorem bX3_tellsLeast_21 {X : zX} {d : Nat} {E : zM} {K : Option Value → zG → Prop} {KX : String → zG → Prop} (C : zC X (d + 1) E RX3 cX3_tellsLeast 5 (some .int) "tellsLeast") (hQ : zQ X E K KX) (g : zG) (a0 : Nat) (x1 : Int32) (x2 : Int32) (x3 : Int32) (b0 : Nat) (h : GW X E 5 g 22 [(0, .ref a0), (1, .int x1), (2, .int x2), (3, .int x3)] [.int 0, .ref b0]) : GW X E 5 g 21 [(0, .ref a0), (1, .int x1), (2, .int x2), (3, .int x3)] [.ref b0] := by
  intro H locs ls hR hS hl
  refine lv_iconst (v := 0) C.x C.b dX3_tellsLeast_21 (by decide) ?_
  exact h H locs ls hR hS (lv_sub hl [0, 1, 2, 3] rfl)
set_option maxHeartbeats 4000000 in
theorem bX3_tellsLeast_22 {X : zX} {d : Nat} {E : zM} {K : Option Value → zG → Prop} {KX : String → zG → Prop} (C : zC X (d + 1) E RX3 cX3_tellsLeast 5 (some .int) "tellsLeast") (hQ : zQ X E K KX) (g : zG) (a0 : Nat) (x1 : Int32) (x2 : Int32) (x3 : Int32) (b0 : Nat) (t1 : Int32) (h : ∃ (fs_1 : List Value) (v_2 : Int32), zGo g 3 a0 = some fs_1 ∧ fs_1[3]? = some (.int v_2) ∧ (16 < v_2 → GW X E 5 g 36 [(0, .ref a0), (1, .int x1), (2, .int x2), (3, .int x3)] [.int 0, .int t1, .ref b0]) ∧ (¬ 16 < v_2 → GW X E 5 g 36 [(0, .ref a0), (1, .int x1), (2, .int x2), (3, .int x3)] [.int 1, .int t1, .ref b0])) : GW X E 5 g 22 [(0, .ref a0), (1, .int x1), (2, .int x2), (3, .int x3)] [.int t1, .ref b0] := by
  intro H locs ls hR hS hl
  refine lv_aload_n C.x C.b dX3_tellsLeast_22 rfl (lv_at hl 0 rfl) ?_
  obtain ⟨fs_1, v_2, q1, q2, h⟩ := h
  refine z_get C hR q1 rfl (ci := 3) rfl in_X3 3 (by decide) q1640 (fun _ h => h) q2 dX3_tellsLeast_23 ?_
  refine lv_bipush (v := 16) C.x C.b dX3_tellsLeast_26 (by decide) ?_
  obtain ⟨h1, h2⟩ := h
  refine lv_icmp_gt (tgt := 35) C.x C.b dX3_tellsLeast_28 (by decide) (fun c => ?_) (fun c => ?_)
  · have h := h1 c; clear h1 h2
    refine lv_iconst (v := 0) C.x C.b dX3_tellsLeast_35 (by decide) ?_
    exact h H locs ls hR hS (lv_sub hl [0, 1, 2, 3] rfl)
  · have h := h2 c; clear h1 h2
    refine lv_iconst (v := 1) C.x C.b dX3_tellsLeast_31 (by decide) ?_
    refine lv_goto (tgt := 36) C.x C.b dX3_tellsLeast_32 (by decide) ?_
    exact h H locs ls hR hS (lv_sub hl [0, 1, 2, 3] rfl)
set_option maxHeartbeats 4000000 in
theorem bX3_tellsLeast_36 {X : zX} {d : Nat} {E : zM} {K : Option Value → zG → Prop} {KX : String → zG → Prop} (C : zC X (d + 1) E RX3 cX3_tellsLeast 5 (some .int) "tellsLeast") (hQ : zQ X E K KX) (g : zG) (a0 : Nat) (x1 : Int32) (x2 : Int32) (x3 : Int32) (b0 : Nat) (t1 : Int32) (t2 : Int32) (h : zIs g 3 b0 ∧ zCal X d yX3_goes wX3_goes [.ref b0, .int t1, .int t2, .int 1] g (fun r g_1 => ∃ v_2 : Int32, r = some (.int v_2) ∧ zbo v_2 ∧ (¬ v_2 = 0 → zIs g_1 3 a0 ∧ zCal X d yX3_least wX3_least [.ref a0, .int x1, .int x2, .int x3] g_1 (fun r g_3 => ∃ v_4 : Int32, r = some (.int v_4) ∧ (¬ v_4 = 0 → zCal X d yX3_ones wX3_ones [.int v_4] g_3 (fun r g_5 => ∃ v_6 : Int32, r = some (.int v_6) ∧ K (some (.int v_6)) g_5) KX) ∧ (v_4 = 0 → K (some (.int (-1))) g_3)) KX) ∧ (v_2 = 0 → K (some (.int 0)) g_1)) KX) : GW X E 5 g 36 [(0, .ref a0), (1, .int x1), (2, .int x2), (3, .int x3)] [.int t2, .int t1, .ref b0] := by
  intro H locs ls hR hS hl
  refine lv_iconst (v := 1) C.x C.b dX3_tellsLeast_36 (by decide) ?_
  refine z_callV C hR hS hl (n := 3) (C1 := RX3) (T := TX3) (N := 35) (ci := 3) (y := yX3_goes) (bytes := cX3_goes) (maxL := 4) (rt := (some .boolean)) (As := [.int t1, .int t2, .int 1]) (rest := []) h.1 rfl (lw_V q1758 q1760 qs28 q82 q1761) hdV_X3_goes (by decide) rfl rfl (Nat.le_of_ble_eq_true rfl) dX3_tellsLeast_37 h.2 (fun r g_1 hk_ => ?_) (fun x g1 h => z_out C hQ h)
  clear h; obtain ⟨v_2, rfl, zb_, h⟩ := hk_
  show GW X E 5 g_1 40 [(0, .ref a0), (1, .int x1), (2, .int x2), (3, .int x3)] [.int v_2]
  intro H locs ls hR hS hl
  obtain ⟨h1, h2⟩ := h
  refine lv_if_ne (tgt := 45) C.x C.b dX3_tellsLeast_40 (by decide) (fun c => ?_) (fun c => ?_)
  · have h := h1 c; clear h1 h2
    refine lv_aload_n C.x C.b dX3_tellsLeast_45 rfl (lv_at hl 0 rfl) ?_
    refine lv_iload_n C.x C.b dX3_tellsLeast_46 rfl (lv_at hl 1 rfl) ?_
    refine lv_iload_n C.x C.b dX3_tellsLeast_47 rfl (lv_at hl 2 rfl) ?_
    refine lv_iload_n C.x C.b dX3_tellsLeast_48 rfl (lv_at hl 3 rfl) ?_
    refine z_callV C hR hS hl (n := 3) (C1 := RX3) (T := TX3) (N := 35) (ci := 3) (y := yX3_least) (bytes := cX3_least) (maxL := 12) (rt := (some .int)) (As := [.int x1, .int x2, .int x3]) (rest := []) h.1 rfl (lw_V q2105 q2107 qs68 q82 q2108) hdV_X3_least (by decide) rfl rfl (Nat.le_of_ble_eq_true rfl) dX3_tellsLeast_49 h.2 (fun r g_3 hk_ => ?_) (fun x g1 h => z_out C hQ h)
    clear h; obtain ⟨v_4, rfl, h⟩ := hk_
    show GW X E 5 g_3 52 [(0, .ref a0), (1, .int x1), (2, .int x2), (3, .int x3)] [.int v_4]
    intro H locs ls hR hS hl
    refine lv_istore (lv' := [(4, .int v_4), (0, .ref a0), (1, .int x1), (2, .int x2), (3, .int x3)]) C.x C.b dX3_tellsLeast_52 hl (by decide) rfl (fun ls hl => ?_)
    refine lv_iload C.x C.b dX3_tellsLeast_54 (lv_at hl 0 rfl) ?_
    obtain ⟨h1, h2⟩ := h
    refine lv_if_ne (tgt := 63) C.x C.b dX3_tellsLeast_56 (by decide) (fun c => ?_) (fun c => ?_)
    · have h := h1 c; clear h1 h2
      refine lv_iload C.x C.b dX3_tellsLeast_63 (lv_at hl 0 rfl) ?_
      refine z_callS C hR hS hl (n := 1) (y := yX3_ones) (bytes := cX3_ones) (maxL := 3) (rt := (some .int)) (As := [.int v_4]) (rest := []) (lw_S q2123 q2124 q82 q2125) hdS_X3_ones (by decide) rfl rfl (Nat.le_of_ble_eq_true rfl) dX3_tellsLeast_65 h (fun r g_5 hk_ => ?_) (fun x g1 h => z_out C hQ h)
      clear h; obtain ⟨v_6, rfl, h⟩ := hk_
      show GW X E 5 g_5 68 [(4, .int v_4), (0, .ref a0), (1, .int x1), (2, .int x2), (3, .int x3)] [.int v_6]
      intro H locs ls hR hS hl
      exact z_iret C hQ dX3_tellsLeast_68 h H locs ls hR hS hl
    · have h := h2 c; clear h1 h2
      refine lv_iconst (v := (-1)) C.x C.b dX3_tellsLeast_59 (by decide) ?_
      refine lv_goto (tgt := 68) C.x C.b dX3_tellsLeast_60 (by decide) ?_
      exact z_iret C hQ dX3_tellsLeast_68 h H locs ls hR hS hl
  · have h := h2 c; clear h1 h2
    refine lv_iconst (v := 0) C.x C.b dX3_tellsLeast_43 (by decide) ?_
    exact z_iret C hQ dX3_tellsLeast_44 h H locs ls hR hS hl
set_option maxHeartbeats 4000000 in
theorem mX3_tellsLeast {X : zX} {d : Nat} {g : zG} {K : Option Value → zG → Prop} {KX : String → zG → Prop} (hok : zOk X) (a0 : Nat) (x1 : Int32) (x2 : Int32) (x3 : Int32) (h : ∀ E : zM, zC X (d + 1) E RX3 cX3_tellsLeast 5 (some .int) "tellsLeast" → zQ X E K KX → zIs g 3 a0 ∧ zCal X d yX3_isMonitor wX3_isMonitor [.ref a0, .int x1] g (fun r g_1 => ∃ v_2 : Int32, r = some (.int v_2) ∧ zbo v_2 ∧ (v_2 = 0 → GW X E 5 g_1 21 [(0, .ref a0), (1, .int x1), (2, .int x2), (3, .int x3)] [.ref a0]) ∧ (¬ v_2 = 0 → zIs g_1 3 a0 ∧ zCal X d yX3_isEvent wX3_isEvent [.ref a0, .int x2] g_1 (fun r g_3 => ∃ v_4 : Int32, r = some (.int v_4) ∧ zbo v_4 ∧ (v_4 = 0 → GW X E 5 g_3 21 [(0, .ref a0), (1, .int x1), (2, .int x2), (3, .int x3)] [.ref a0]) ∧ (¬ v_4 = 0 → GW X E 5 g_3 22 [(0, .ref a0), (1, .int x1), (2, .int x2), (3, .int x3)] [.int 1, .ref a0])) KX)) KX) : zCal X (d + 1) yX3_tellsLeast wX3_tellsLeast [.ref a0, .int x1, .int x2, .int x3] g K KX := by
  refine z_enter hok pn_X3 (Nat.le_of_ble_eq_true rfl) (fun E C hQ => ?_)
  have C : zC X (d + 1) E RX3 cX3_tellsLeast 5 (some .int) "tellsLeast" := C
  have h := h E C hQ
  show GW X E 5 g 0 [(0, .ref a0), (1, .int x1), (2, .int x2), (3, .int x3)] []
  intro H locs ls hR hS hl
  refine lv_aload_n C.x C.b dX3_tellsLeast_0 rfl (lv_at hl 0 rfl) ?_
  refine lv_aload_n C.x C.b dX3_tellsLeast_1 rfl (lv_at hl 0 rfl) ?_
  refine lv_iload_n C.x C.b dX3_tellsLeast_2 rfl (lv_at hl 1 rfl) ?_
  refine z_callV C hR hS hl (n := 1) (C1 := RX3) (T := TX3) (N := 35) (ci := 3) (y := yX3_isMonitor) (bytes := cX3_isMonitor) (maxL := 2) (rt := (some .boolean)) (As := [.int x1]) (rest := [.ref a0]) h.1 rfl (lw_V q2013 q2015 qs59 q82 q2016) hdV_X3_isMonitor (by decide) rfl rfl (Nat.le_of_ble_eq_true rfl) dX3_tellsLeast_3 h.2 (fun r g_1 hk_ => ?_) (fun x g1 h => z_out C hQ h)
  clear h; obtain ⟨v_2, rfl, zb_, h⟩ := hk_
  show GW X E 5 g_1 6 [(0, .ref a0), (1, .int x1), (2, .int x2), (3, .int x3)] [.int v_2, .ref a0]
  intro H locs ls hR hS hl
  obtain ⟨h1, h2⟩ := h
  refine lv_if_eq (tgt := 21) C.x C.b dX3_tellsLeast_6 (by decide) (fun c => ?_) (fun c => ?_)
  · have h := h1 c; clear h1 h2
    exact h H locs ls hR hS (lv_sub hl [0, 1, 2, 3] rfl)
  · have h := h2 c; clear h1 h2
    refine lv_aload_n C.x C.b dX3_tellsLeast_9 rfl (lv_at hl 0 rfl) ?_
    refine lv_iload_n C.x C.b dX3_tellsLeast_10 rfl (lv_at hl 2 rfl) ?_
    refine z_callV C hR hS hl (n := 1) (C1 := RX3) (T := TX3) (N := 35) (ci := 3) (y := yX3_isEvent) (bytes := cX3_isEvent) (maxL := 2) (rt := (some .boolean)) (As := [.int x2]) (rest := [.ref a0]) h.1 rfl (lw_V q1976 q1978 qs56 q82 q1979) hdV_X3_isEvent (by decide) rfl rfl (Nat.le_of_ble_eq_true rfl) dX3_tellsLeast_11 h.2 (fun r g_3 hk_ => ?_) (fun x g1 h => z_out C hQ h)
    clear h; obtain ⟨v_4, rfl, zb_, h⟩ := hk_
    show GW X E 5 g_3 14 [(0, .ref a0), (1, .int x1), (2, .int x2), (3, .int x3)] [.int v_4, .ref a0]
    intro H locs ls hR hS hl
    obtain ⟨h1, h2⟩ := h
    refine lv_if_eq (tgt := 21) C.x C.b dX3_tellsLeast_14 (by decide) (fun c => ?_) (fun c => ?_)
    · have h := h1 c; clear h1 h2
      exact h H locs ls hR hS (lv_sub hl [0, 1, 2, 3] rfl)
    · have h := h2 c; clear h1 h2
      refine lv_iconst (v := 1) C.x C.b dX3_tellsLeast_17 (by decide) ?_
      refine lv_goto (tgt := 22) C.x C.b dX3_tellsLeast_18 (by decide) ?_
      exact h H locs ls hR hS (lv_sub hl [0, 1, 2, 3] rfl)
theorem hdV_X3_tellsLeast : yX3_tellsLeast.cls = RX3 ∧ yX3_tellsLeast.cls ≠ "java/lang/invoke/MethodHandle" ∧ yX3_tellsLeast.cls ≠ "java/lang/invoke/VarHandle" ∧ (parseMethodDescriptor yX3_tellsLeast.desc).map (fun d => d.parameters.length) = some 3 := by decide +kernel
set_option maxHeartbeats 4000000 in
theorem mX3_explanation {X : zX} {d : Nat} {g : zG} {K : Option Value → zG → Prop} {KX : String → zG → Prop} (hok : zOk X) (a0 : Nat) (x1 : Int32) (x2 : Int32) (h : zIs g 3 a0 ∧ zCal X d yX3_tellsLeast wX3_tellsLeast [.ref a0, .int x1, .int x2, .int 0] g (fun r g_1 => ∃ v_2 : Int32, r = some (.int v_2) ∧ K (some (.int v_2)) g_1) KX) : zCal X (d + 1) yX3_explanation wX3_explanation [.ref a0, .int x1, .int x2] g K KX := by
  refine z_enter hok pn_X3 (Nat.le_of_ble_eq_true rfl) (fun E C hQ => ?_)
  have C : zC X (d + 1) E RX3 cX3_explanation 3 (some .int) "explanation" := C
  show GW X E 3 g 0 [(0, .ref a0), (1, .int x1), (2, .int x2)] []
  intro H locs ls hR hS hl
  refine lv_aload_n C.x C.b dX3_explanation_0 rfl (lv_at hl 0 rfl) ?_
  refine lv_iload_n C.x C.b dX3_explanation_1 rfl (lv_at hl 1 rfl) ?_
  refine lv_iload_n C.x C.b dX3_explanation_2 rfl (lv_at hl 2 rfl) ?_
  refine lv_iconst (v := 0) C.x C.b dX3_explanation_3 (by decide) ?_
  refine z_callV C hR hS hl (n := 3) (C1 := RX3) (T := TX3) (N := 35) (ci := 3) (y := yX3_tellsLeast) (bytes := cX3_tellsLeast) (maxL := 5) (rt := (some .int)) (As := [.int x1, .int x2, .int 0]) (rest := []) h.1 rfl (lw_V q2101 q2103 qs67 q82 q2104) hdV_X3_tellsLeast (by decide) rfl rfl (Nat.le_of_ble_eq_true rfl) dX3_explanation_4 h.2 (fun r g_1 hk_ => ?_) (fun x g1 h => z_out C hQ h)
  clear h; obtain ⟨v_2, rfl, h⟩ := hk_
  show GW X E 3 g_1 7 [(0, .ref a0), (1, .int x1), (2, .int x2)] [.int v_2]
  intro H locs ls hR hS hl
  exact z_iret C hQ dX3_explanation_7 h H locs ls hR hS hl
set_option maxHeartbeats 4000000 in
theorem bX3_tellsOne_21 {X : zX} {d : Nat} {E : zM} {K : Option Value → zG → Prop} {KX : String → zG → Prop} (C : zC X (d + 1) E RX3 cX3_tellsOne 8 (some .int) "tellsOne") (hQ : zQ X E K KX) (g : zG) (a0 : Nat) (x1 : Int32) (x2 : Int32) (x3 : Int32) (x4 : Int32) (b0 : Nat) (h : GW X E 8 g 22 [(0, .ref a0), (1, .int x1), (2, .int x2), (3, .int x3), (4, .int x4)] [.int 0, .ref b0]) : GW X E 8 g 21 [(0, .ref a0), (1, .int x1), (2, .int x2), (3, .int x3), (4, .int x4)] [.ref b0] := by
  intro H locs ls hR hS hl
  refine lv_iconst (v := 0) C.x C.b dX3_tellsOne_21 (by decide) ?_
  exact h H locs ls hR hS (lv_sub hl [0, 1, 2, 3, 4] rfl)
set_option maxHeartbeats 4000000 in
theorem bX3_tellsOne_22 {X : zX} {d : Nat} {E : zM} {K : Option Value → zG → Prop} {KX : String → zG → Prop} (C : zC X (d + 1) E RX3 cX3_tellsOne 8 (some .int) "tellsOne") (hQ : zQ X E K KX) (g : zG) (a0 : Nat) (x1 : Int32) (x2 : Int32) (x3 : Int32) (x4 : Int32) (b0 : Nat) (t1 : Int32) (h : ∃ (fs_1 : List Value) (v_2 : Int32), zGo g 3 a0 = some fs_1 ∧ fs_1[3]? = some (.int v_2) ∧ (16 < v_2 → GW X E 8 g 36 [(0, .ref a0), (1, .int x1), (2, .int x2), (3, .int x3), (4, .int x4)] [.int 0, .int t1, .ref b0]) ∧ (¬ 16 < v_2 → GW X E 8 g 36 [(0, .ref a0), (1, .int x1), (2, .int x2), (3, .int x3), (4, .int x4)] [.int 1, .int t1, .ref b0])) : GW X E 8 g 22 [(0, .ref a0), (1, .int x1), (2, .int x2), (3, .int x3), (4, .int x4)] [.int t1, .ref b0] := by
  intro H locs ls hR hS hl
  refine lv_aload_n C.x C.b dX3_tellsOne_22 rfl (lv_at hl 0 rfl) ?_
  obtain ⟨fs_1, v_2, q1, q2, h⟩ := h
  refine z_get C hR q1 rfl (ci := 3) rfl in_X3 3 (by decide) q1640 (fun _ h => h) q2 dX3_tellsOne_23 ?_
  refine lv_bipush (v := 16) C.x C.b dX3_tellsOne_26 (by decide) ?_
  obtain ⟨h1, h2⟩ := h
  refine lv_icmp_gt (tgt := 35) C.x C.b dX3_tellsOne_28 (by decide) (fun c => ?_) (fun c => ?_)
  · have h := h1 c; clear h1 h2
    refine lv_iconst (v := 0) C.x C.b dX3_tellsOne_35 (by decide) ?_
    exact h H locs ls hR hS (lv_sub hl [0, 1, 2, 3, 4] rfl)
  · have h := h2 c; clear h1 h2
    refine lv_iconst (v := 1) C.x C.b dX3_tellsOne_31 (by decide) ?_
    refine lv_goto (tgt := 36) C.x C.b dX3_tellsOne_32 (by decide) ?_
    exact h H locs ls hR hS (lv_sub hl [0, 1, 2, 3, 4] rfl)
set_option maxHeartbeats 4000000 in
theorem bX3_tellsOne_36 {X : zX} {d : Nat} {E : zM} {K : Option Value → zG → Prop} {KX : String → zG → Prop} (C : zC X (d + 1) E RX3 cX3_tellsOne 8 (some .int) "tellsOne") (hQ : zQ X E K KX) (g : zG) (a0 : Nat) (x1 : Int32) (x2 : Int32) (x3 : Int32) (x4 : Int32) (b0 : Nat) (t1 : Int32) (t2 : Int32) (h : zIs g 3 b0 ∧ zCal X d yX3_goes wX3_goes [.ref b0, .int t1, .int t2, .int 1] g (fun r g_1 => ∃ v_2 : Int32, r = some (.int v_2) ∧ zbo v_2 ∧ (¬ v_2 = 0 → zIs g_1 3 a0 ∧ zCal X d yX3_least wX3_least [.ref a0, .int x1, .int x2, .int x4] g_1 (fun r g_3 => ∃ v_4 : Int32, r = some (.int v_4) ∧ GW X E 8 g_3 61 [(0, .ref a0), (3, .int x3), (5, .int v_4), (6, .int x3), (7, .int 0)] []) KX) ∧ (v_2 = 0 → K (some (.int 0)) g_1)) KX) : GW X E 8 g 36 [(0, .ref a0), (1, .int x1), (2, .int x2), (3, .int x3), (4, .int x4)] [.int t2, .int t1, .ref b0] := by
  intro H locs ls hR hS hl
  refine lv_iconst (v := 1) C.x C.b dX3_tellsOne_36 (by decide) ?_
  refine z_callV C hR hS hl (n := 3) (C1 := RX3) (T := TX3) (N := 35) (ci := 3) (y := yX3_goes) (bytes := cX3_goes) (maxL := 4) (rt := (some .boolean)) (As := [.int t1, .int t2, .int 1]) (rest := []) h.1 rfl (lw_V q1758 q1760 qs28 q82 q1761) hdV_X3_goes (by decide) rfl rfl (Nat.le_of_ble_eq_true rfl) dX3_tellsOne_37 h.2 (fun r g_1 hk_ => ?_) (fun x g1 h => z_out C hQ h)
  clear h; obtain ⟨v_2, rfl, zb_, h⟩ := hk_
  show GW X E 8 g_1 40 [(0, .ref a0), (1, .int x1), (2, .int x2), (3, .int x3), (4, .int x4)] [.int v_2]
  intro H locs ls hR hS hl
  obtain ⟨h1, h2⟩ := h
  refine lv_if_ne (tgt := 45) C.x C.b dX3_tellsOne_40 (by decide) (fun c => ?_) (fun c => ?_)
  · have h := h1 c; clear h1 h2
    refine lv_aload_n C.x C.b dX3_tellsOne_45 rfl (lv_at hl 0 rfl) ?_
    refine lv_iload_n C.x C.b dX3_tellsOne_46 rfl (lv_at hl 1 rfl) ?_
    refine lv_iload_n C.x C.b dX3_tellsOne_47 rfl (lv_at hl 2 rfl) ?_
    refine lv_iload C.x C.b dX3_tellsOne_48 (lv_at hl 4 rfl) ?_
    refine z_callV C hR hS hl (n := 3) (C1 := RX3) (T := TX3) (N := 35) (ci := 3) (y := yX3_least) (bytes := cX3_least) (maxL := 12) (rt := (some .int)) (As := [.int x1, .int x2, .int x4]) (rest := []) h.1 rfl (lw_V q2105 q2107 qs68 q82 q2108) hdV_X3_least (by decide) rfl rfl (Nat.le_of_ble_eq_true rfl) dX3_tellsOne_50 h.2 (fun r g_3 hk_ => ?_) (fun x g1 h => z_out C hQ h)
    clear h; obtain ⟨v_4, rfl, h⟩ := hk_
    show GW X E 8 g_3 53 [(0, .ref a0), (1, .int x1), (2, .int x2), (3, .int x3), (4, .int x4)] [.int v_4]
    intro H locs ls hR hS hl
    refine lv_istore (lv' := [(5, .int v_4), (0, .ref a0), (1, .int x1), (2, .int x2), (3, .int x3), (4, .int x4)]) C.x C.b dX3_tellsOne_53 hl (by decide) rfl (fun ls hl => ?_)
    refine lv_iload_n C.x C.b dX3_tellsOne_55 rfl (lv_at hl 4 rfl) ?_
    refine lv_istore (lv' := [(6, .int x3), (5, .int v_4), (0, .ref a0), (1, .int x1), (2, .int x2), (3, .int x3), (4, .int x4)]) C.x C.b dX3_tellsOne_56 hl (by decide) rfl (fun ls hl => ?_)
    refine lv_iconst (v := 0) C.x C.b dX3_tellsOne_58 (by decide) ?_
    refine lv_istore (lv' := [(7, .int 0), (6, .int x3), (5, .int v_4), (0, .ref a0), (1, .int x1), (2, .int x2), (3, .int x3), (4, .int x4)]) C.x C.b dX3_tellsOne_59 hl (by decide) rfl (fun ls hl => ?_)
    exact h H locs ls hR hS (lv_sub hl [3, 6, 2, 1, 0] rfl)
  · have h := h2 c; clear h1 h2
    refine lv_iconst (v := 0) C.x C.b dX3_tellsOne_43 (by decide) ?_
    exact z_iret C hQ dX3_tellsOne_44 h H locs ls hR hS hl
set_option maxHeartbeats 4000000 in
theorem bX3_tellsOne_61 {X : zX} {d : Nat} {E : zM} {K : Option Value → zG → Prop} {KX : String → zG → Prop} (C : zC X (d + 1) E RX3 cX3_tellsOne 8 (some .int) "tellsOne") (hQ : zQ X E K KX) (g : zG) (a0 : Nat) (x3 : Int32) (x5 : Int32) (x6 : Int32) (x7 : Int32) (h : ∃ (fs_1 : List Value) (v_2 : Int32), zGo g 3 a0 = some fs_1 ∧ fs_1[3]? = some (.int v_2) ∧ (v_2 ≤ x7 → K (some (.int (-1))) g) ∧ (¬ v_2 ≤ x7 → (x3 < 0 → K (some (.int (-1))) g) ∧ (¬ x3 < 0 → (¬ ((x5 >>> (x7 &&& 31)) &&& 1) = 1 → GW X E 8 g 61 [(0, .ref a0), (3, .int x3), (5, .int x5), (6, .int x6), (7, .int (x7 + 1))] []) ∧ (((x5 >>> (x7 &&& 31)) &&& 1) = 1 → (¬ x6 = 0 → GW X E 8 g 61 [(0, .ref a0), (3, .int x3), (5, .int x5), (6, .int (x6 + (-1))), (7, .int (x7 + 1))] []) ∧ (x6 = 0 → ∃ (fs_3 : List Value) (a_4 : Nat), zGo g 3 a0 = some fs_3 ∧ fs_3[12]? = some (.ref a_4) ∧ ∃ (n_5 : Nat) (f_6 : Nat → Int32), zGi g 12 a_4 = some (n_5, f_6) ∧ vp_in x7 n_5 ∧ ∀ v_7 : Int32, v_7 = f_6 x7.toNatClampNeg → K (some (.int v_7)) g))))) : GW X E 8 g 61 [(0, .ref a0), (3, .int x3), (5, .int x5), (6, .int x6), (7, .int x7)] [] := by
  intro H locs ls hR hS hl
  refine lv_iload C.x C.b dX3_tellsOne_61 (lv_at hl 4 rfl) ?_
  refine lv_aload_n C.x C.b dX3_tellsOne_63 rfl (lv_at hl 0 rfl) ?_
  obtain ⟨fs_1, v_2, q1, q2, h⟩ := h
  refine z_get C hR q1 rfl (ci := 3) rfl in_X3 3 (by decide) q1640 (fun _ h => h) q2 dX3_tellsOne_64 ?_
  obtain ⟨h1, h2⟩ := h
  refine lv_icmp_ge (tgt := 107) C.x C.b dX3_tellsOne_67 (by decide) (fun c => ?_) (fun c => ?_)
  · have h := h1 c; clear h1 h2
    refine lv_iconst (v := (-1)) C.x C.b dX3_tellsOne_107 (by decide) ?_
    exact z_iret C hQ dX3_tellsOne_108 h H locs ls hR hS hl
  · have h := h2 c; clear h1 h2
    refine lv_iload_n C.x C.b dX3_tellsOne_70 rfl (lv_at hl 1 rfl) ?_
    obtain ⟨h1, h2⟩ := h
    refine lv_if_lt (tgt := 107) C.x C.b dX3_tellsOne_71 (by decide) (fun c => ?_) (fun c => ?_)
    · have h := h1 c; clear h1 h2
      refine lv_iconst (v := (-1)) C.x C.b dX3_tellsOne_107 (by decide) ?_
      exact z_iret C hQ dX3_tellsOne_108 h H locs ls hR hS hl
    · have h := h2 c; clear h1 h2
      refine lv_iload C.x C.b dX3_tellsOne_74 (lv_at hl 2 rfl) ?_
      refine lv_iload C.x C.b dX3_tellsOne_76 (lv_at hl 4 rfl) ?_
      refine lv_ishr C.x C.b dX3_tellsOne_78 ?_
      refine lv_iconst (v := 1) C.x C.b dX3_tellsOne_79 (by decide) ?_
      refine lv_iand C.x C.b dX3_tellsOne_80 ?_
      refine lv_iconst (v := 1) C.x C.b dX3_tellsOne_81 (by decide) ?_
      obtain ⟨h1, h2⟩ := h
      refine lv_icmp_ne (tgt := 101) C.x C.b dX3_tellsOne_82 (by decide) (fun c => ?_) (fun c => ?_)
      · have h := h1 c; clear h1 h2
        refine lv_iinc (v := x7 + 1) (lv' := [(7, .int (x7 + 1)), (0, .ref a0), (3, .int x3), (5, .int x5), (6, .int x6)]) C.x C.b dX3_tellsOne_101 hl (k := 4) rfl rfl (by decide) rfl (fun ls hl => ?_)
        refine lv_goto (tgt := 61) C.x C.b dX3_tellsOne_104 (by decide) ?_
        exact h H locs ls hR hS (lv_sub hl [1, 2, 3, 4, 0] rfl)
      · have h := h2 c; clear h1 h2
        refine lv_iload C.x C.b dX3_tellsOne_85 (lv_at hl 3 rfl) ?_
        obtain ⟨h1, h2⟩ := h
        refine lv_if_ne (tgt := 98) C.x C.b dX3_tellsOne_87 (by decide) (fun c => ?_) (fun c => ?_)
        · have h := h1 c; clear h1 h2
          refine lv_iinc (v := x6 + (-1)) (lv' := [(6, .int (x6 + (-1))), (0, .ref a0), (3, .int x3), (5, .int x5), (7, .int x7)]) C.x C.b dX3_tellsOne_98 hl (k := 3) rfl rfl (by decide) rfl (fun ls hl => ?_)
          refine lv_iinc (v := x7 + 1) (lv' := [(7, .int (x7 + 1)), (6, .int (x6 + (-1))), (0, .ref a0), (3, .int x3), (5, .int x5)]) C.x C.b dX3_tellsOne_101 hl (k := 4) rfl rfl (by decide) rfl (fun ls hl => ?_)
          refine lv_goto (tgt := 61) C.x C.b dX3_tellsOne_104 (by decide) ?_
          exact h H locs ls hR hS (lv_sub hl [2, 3, 4, 1, 0] rfl)
        · have h := h2 c; clear h1 h2
          refine lv_aload_n C.x C.b dX3_tellsOne_90 rfl (lv_at hl 0 rfl) ?_
          obtain ⟨fs_3, a_4, q1, q2, h⟩ := h
          refine z_get C hR q1 rfl (ci := 3) rfl in_X3 12 (by decide) q1649 (fun _ h => h) q2 dX3_tellsOne_91 ?_
          refine lv_iload C.x C.b dX3_tellsOne_94 (lv_at hl 4 rfl) ?_
          obtain ⟨n_5, f_6, q1, q2, h⟩ := h
          refine z_iald C hR q1 (by decide) q2 dX3_tellsOne_96 ?_
          have h := h _ rfl
          generalize f_6 x7.toNatClampNeg = v_7 at h ⊢
          exact z_iret C hQ dX3_tellsOne_97 h H locs ls hR hS hl
set_option maxHeartbeats 4000000 in
theorem mX3_tellsOne {X : zX} {d : Nat} {g : zG} {K : Option Value → zG → Prop} {KX : String → zG → Prop} (hok : zOk X) (a0 : Nat) (x1 : Int32) (x2 : Int32) (x3 : Int32) (x4 : Int32) (h : ∀ E : zM, zC X (d + 1) E RX3 cX3_tellsOne 8 (some .int) "tellsOne" → zQ X E K KX → zIs g 3 a0 ∧ zCal X d yX3_isMonitor wX3_isMonitor [.ref a0, .int x1] g (fun r g_1 => ∃ v_2 : Int32, r = some (.int v_2) ∧ zbo v_2 ∧ (v_2 = 0 → GW X E 8 g_1 21 [(0, .ref a0), (1, .int x1), (2, .int x2), (3, .int x3), (4, .int x4)] [.ref a0]) ∧ (¬ v_2 = 0 → zIs g_1 3 a0 ∧ zCal X d yX3_isEvent wX3_isEvent [.ref a0, .int x2] g_1 (fun r g_3 => ∃ v_4 : Int32, r = some (.int v_4) ∧ zbo v_4 ∧ (v_4 = 0 → GW X E 8 g_3 21 [(0, .ref a0), (1, .int x1), (2, .int x2), (3, .int x3), (4, .int x4)] [.ref a0]) ∧ (¬ v_4 = 0 → GW X E 8 g_3 22 [(0, .ref a0), (1, .int x1), (2, .int x2), (3, .int x3), (4, .int x4)] [.int 1, .ref a0])) KX)) KX) : zCal X (d + 1) yX3_tellsOne wX3_tellsOne [.ref a0, .int x1, .int x2, .int x3, .int x4] g K KX := by
  refine z_enter hok pn_X3 (Nat.le_of_ble_eq_true rfl) (fun E C hQ => ?_)
  have C : zC X (d + 1) E RX3 cX3_tellsOne 8 (some .int) "tellsOne" := C
  have h := h E C hQ
  show GW X E 8 g 0 [(0, .ref a0), (1, .int x1), (2, .int x2), (3, .int x3), (4, .int x4)] []
  intro H locs ls hR hS hl
  refine lv_aload_n C.x C.b dX3_tellsOne_0 rfl (lv_at hl 0 rfl) ?_
  refine lv_aload_n C.x C.b dX3_tellsOne_1 rfl (lv_at hl 0 rfl) ?_
  refine lv_iload_n C.x C.b dX3_tellsOne_2 rfl (lv_at hl 1 rfl) ?_
  refine z_callV C hR hS hl (n := 1) (C1 := RX3) (T := TX3) (N := 35) (ci := 3) (y := yX3_isMonitor) (bytes := cX3_isMonitor) (maxL := 2) (rt := (some .boolean)) (As := [.int x1]) (rest := [.ref a0]) h.1 rfl (lw_V q2013 q2015 qs59 q82 q2016) hdV_X3_isMonitor (by decide) rfl rfl (Nat.le_of_ble_eq_true rfl) dX3_tellsOne_3 h.2 (fun r g_1 hk_ => ?_) (fun x g1 h => z_out C hQ h)
  clear h; obtain ⟨v_2, rfl, zb_, h⟩ := hk_
  show GW X E 8 g_1 6 [(0, .ref a0), (1, .int x1), (2, .int x2), (3, .int x3), (4, .int x4)] [.int v_2, .ref a0]
  intro H locs ls hR hS hl
  obtain ⟨h1, h2⟩ := h
  refine lv_if_eq (tgt := 21) C.x C.b dX3_tellsOne_6 (by decide) (fun c => ?_) (fun c => ?_)
  · have h := h1 c; clear h1 h2
    exact h H locs ls hR hS (lv_sub hl [0, 1, 2, 3, 4] rfl)
  · have h := h2 c; clear h1 h2
    refine lv_aload_n C.x C.b dX3_tellsOne_9 rfl (lv_at hl 0 rfl) ?_
    refine lv_iload_n C.x C.b dX3_tellsOne_10 rfl (lv_at hl 2 rfl) ?_
    refine z_callV C hR hS hl (n := 1) (C1 := RX3) (T := TX3) (N := 35) (ci := 3) (y := yX3_isEvent) (bytes := cX3_isEvent) (maxL := 2) (rt := (some .boolean)) (As := [.int x2]) (rest := [.ref a0]) h.1 rfl (lw_V q1976 q1978 qs56 q82 q1979) hdV_X3_isEvent (by decide) rfl rfl (Nat.le_of_ble_eq_true rfl) dX3_tellsOne_11 h.2 (fun r g_3 hk_ => ?_) (fun x g1 h => z_out C hQ h)
    clear h; obtain ⟨v_4, rfl, zb_, h⟩ := hk_
    show GW X E 8 g_3 14 [(0, .ref a0), (1, .int x1), (2, .int x2), (3, .int x3), (4, .int x4)] [.int v_4, .ref a0]
    intro H locs ls hR hS hl
    obtain ⟨h1, h2⟩ := h
    refine lv_if_eq (tgt := 21) C.x C.b dX3_tellsOne_14 (by decide) (fun c => ?_) (fun c => ?_)
    · have h := h1 c; clear h1 h2
      exact h H locs ls hR hS (lv_sub hl [0, 1, 2, 3, 4] rfl)
    · have h := h2 c; clear h1 h2
      refine lv_iconst (v := 1) C.x C.b dX3_tellsOne_17 (by decide) ?_
      refine lv_goto (tgt := 22) C.x C.b dX3_tellsOne_18 (by decide) ?_
      exact h H locs ls hR hS (lv_sub hl [0, 1, 2, 3, 4] rfl)
theorem hdV_X3_tellsOne : yX3_tellsOne.cls = RX3 ∧ yX3_tellsOne.cls ≠ "java/lang/invoke/MethodHandle" ∧ yX3_tellsOne.cls ≠ "java/lang/invoke/VarHandle" ∧ (parseMethodDescriptor yX3_tellsOne.desc).map (fun d => d.parameters.length) = some 4 := by decide +kernel
set_option maxHeartbeats 4000000 in
theorem mX3_explainedBy {X : zX} {d : Nat} {g : zG} {K : Option Value → zG → Prop} {KX : String → zG → Prop} (hok : zOk X) (a0 : Nat) (x1 : Int32) (x2 : Int32) (x3 : Int32) (h : zIs g 3 a0 ∧ zCal X d yX3_tellsOne wX3_tellsOne [.ref a0, .int x1, .int x2, .int x3, .int 0] g (fun r g_1 => ∃ v_2 : Int32, r = some (.int v_2) ∧ K (some (.int v_2)) g_1) KX) : zCal X (d + 1) yX3_explainedBy wX3_explainedBy [.ref a0, .int x1, .int x2, .int x3] g K KX := by
  refine z_enter hok pn_X3 (Nat.le_of_ble_eq_true rfl) (fun E C hQ => ?_)
  have C : zC X (d + 1) E RX3 cX3_explainedBy 4 (some .int) "explainedBy" := C
  show GW X E 4 g 0 [(0, .ref a0), (1, .int x1), (2, .int x2), (3, .int x3)] []
  intro H locs ls hR hS hl
  refine lv_aload_n C.x C.b dX3_explainedBy_0 rfl (lv_at hl 0 rfl) ?_
  refine lv_iload_n C.x C.b dX3_explainedBy_1 rfl (lv_at hl 1 rfl) ?_
  refine lv_iload_n C.x C.b dX3_explainedBy_2 rfl (lv_at hl 2 rfl) ?_
  refine lv_iload_n C.x C.b dX3_explainedBy_3 rfl (lv_at hl 3 rfl) ?_
  refine lv_iconst (v := 0) C.x C.b dX3_explainedBy_4 (by decide) ?_
  refine z_callV C hR hS hl (n := 4) (C1 := RX3) (T := TX3) (N := 35) (ci := 3) (y := yX3_tellsOne) (bytes := cX3_tellsOne) (maxL := 8) (rt := (some .int)) (As := [.int x1, .int x2, .int x3, .int 0]) (rest := []) h.1 rfl (lw_V q2130 q2132 qs71 q82 q2133) hdV_X3_tellsOne (by decide) rfl rfl (Nat.le_of_ble_eq_true rfl) dX3_explainedBy_5 h.2 (fun r g_1 hk_ => ?_) (fun x g1 h => z_out C hQ h)
  clear h; obtain ⟨v_2, rfl, h⟩ := hk_
  show GW X E 4 g_1 8 [(0, .ref a0), (1, .int x1), (2, .int x2), (3, .int x3)] [.int v_2]
  intro H locs ls hR hS hl
  exact z_iret C hQ dX3_explainedBy_8 h H locs ls hR hS hl
set_option maxHeartbeats 4000000 in
theorem mX3_mend {X : zX} {d : Nat} {g : zG} {K : Option Value → zG → Prop} {KX : String → zG → Prop} (hok : zOk X) (a0 : Nat) (x1 : Int32) (x2 : Int32) (h : zIs g 3 a0 ∧ zCal X d yX3_tellsLeast wX3_tellsLeast [.ref a0, .int x1, .int x2, .int 1] g (fun r g_1 => ∃ v_2 : Int32, r = some (.int v_2) ∧ K (some (.int v_2)) g_1) KX) : zCal X (d + 1) yX3_mend wX3_mend [.ref a0, .int x1, .int x2] g K KX := by
  refine z_enter hok pn_X3 (Nat.le_of_ble_eq_true rfl) (fun E C hQ => ?_)
  have C : zC X (d + 1) E RX3 cX3_mend 3 (some .int) "mend" := C
  show GW X E 3 g 0 [(0, .ref a0), (1, .int x1), (2, .int x2)] []
  intro H locs ls hR hS hl
  refine lv_aload_n C.x C.b dX3_mend_0 rfl (lv_at hl 0 rfl) ?_
  refine lv_iload_n C.x C.b dX3_mend_1 rfl (lv_at hl 1 rfl) ?_
  refine lv_iload_n C.x C.b dX3_mend_2 rfl (lv_at hl 2 rfl) ?_
  refine lv_iconst (v := 1) C.x C.b dX3_mend_3 (by decide) ?_
  refine z_callV C hR hS hl (n := 3) (C1 := RX3) (T := TX3) (N := 35) (ci := 3) (y := yX3_tellsLeast) (bytes := cX3_tellsLeast) (maxL := 5) (rt := (some .int)) (As := [.int x1, .int x2, .int 1]) (rest := []) h.1 rfl (lw_V q2101 q2103 qs67 q82 q2104) hdV_X3_tellsLeast (by decide) rfl rfl (Nat.le_of_ble_eq_true rfl) dX3_mend_4 h.2 (fun r g_1 hk_ => ?_) (fun x g1 h => z_out C hQ h)
  clear h; obtain ⟨v_2, rfl, h⟩ := hk_
  show GW X E 3 g_1 7 [(0, .ref a0), (1, .int x1), (2, .int x2)] [.int v_2]
  intro H locs ls hR hS hl
  exact z_iret C hQ dX3_mend_7 h H locs ls hR hS hl
set_option maxHeartbeats 4000000 in
theorem mX3_mendedBy {X : zX} {d : Nat} {g : zG} {K : Option Value → zG → Prop} {KX : String → zG → Prop} (hok : zOk X) (a0 : Nat) (x1 : Int32) (x2 : Int32) (x3 : Int32) (h : zIs g 3 a0 ∧ zCal X d yX3_tellsOne wX3_tellsOne [.ref a0, .int x1, .int x2, .int x3, .int 1] g (fun r g_1 => ∃ v_2 : Int32, r = some (.int v_2) ∧ K (some (.int v_2)) g_1) KX) : zCal X (d + 1) yX3_mendedBy wX3_mendedBy [.ref a0, .int x1, .int x2, .int x3] g K KX := by
  refine z_enter hok pn_X3 (Nat.le_of_ble_eq_true rfl) (fun E C hQ => ?_)
  have C : zC X (d + 1) E RX3 cX3_mendedBy 4 (some .int) "mendedBy" := C
  show GW X E 4 g 0 [(0, .ref a0), (1, .int x1), (2, .int x2), (3, .int x3)] []
  intro H locs ls hR hS hl
  refine lv_aload_n C.x C.b dX3_mendedBy_0 rfl (lv_at hl 0 rfl) ?_
  refine lv_iload_n C.x C.b dX3_mendedBy_1 rfl (lv_at hl 1 rfl) ?_
  refine lv_iload_n C.x C.b dX3_mendedBy_2 rfl (lv_at hl 2 rfl) ?_
  refine lv_iload_n C.x C.b dX3_mendedBy_3 rfl (lv_at hl 3 rfl) ?_
  refine lv_iconst (v := 1) C.x C.b dX3_mendedBy_4 (by decide) ?_
  refine z_callV C hR hS hl (n := 4) (C1 := RX3) (T := TX3) (N := 35) (ci := 3) (y := yX3_tellsOne) (bytes := cX3_tellsOne) (maxL := 8) (rt := (some .int)) (As := [.int x1, .int x2, .int x3, .int 1]) (rest := []) h.1 rfl (lw_V q2130 q2132 qs71 q82 q2133) hdV_X3_tellsOne (by decide) rfl rfl (Nat.le_of_ble_eq_true rfl) dX3_mendedBy_5 h.2 (fun r g_1 hk_ => ?_) (fun x g1 h => z_out C hQ h)
  clear h; obtain ⟨v_2, rfl, h⟩ := hk_
  show GW X E 4 g_1 8 [(0, .ref a0), (1, .int x1), (2, .int x2), (3, .int x3)] [.int v_2]
  intro H locs ls hR hS hl
  exact z_iret C hQ dX3_mendedBy_8 h H locs ls hR hS hl
