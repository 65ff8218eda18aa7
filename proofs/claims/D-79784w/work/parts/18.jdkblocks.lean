set_option maxRecDepth 100000
theorem pn_J0 : plainName RJ0 = true := by decide +kernel
theorem pn_J1 : plainName RJ1 = true := by decide +kernel
theorem pn_J3 : plainName RJ3 = true := by decide +kernel
theorem pn_J5 : plainName RJ5 = true := by decide +kernel
theorem pn_J14 : plainName RJ14 = true := by decide +kernel
theorem pn_J15 : plainName RJ15 = true := by decide +kernel
theorem pn_J21 : plainName RJ21 = true := by decide +kernel
set_option maxHeartbeats 4000000 in
theorem mJ24_equals {X : zX} {d : Nat} {g : zG} {K : Option Value → zG → Prop} {KX : String → zG → Prop} (hok : zOk X) (a0 : Nat) (r1 : Option Nat) (h : (¬ (some a0) = r1 → K (some (.int 0)) g) ∧ ((some a0) = r1 → K (some (.int 1)) g)) : zCal X d yJ24_equals wJ24_equals [.ref a0, va_rf r1] g K KX := by
  refine z_enterF hok pf_J24_equals (by simp [lg_sl, zrf_cat, zc_r, zc_i, zc_n, zc_l]) (fun E C hQ => ?_)
  have C : zC X d E RJ24 cJ24_equals 2 (some .boolean) "equals" := C
  rw [show lv_args 0 [.ref a0, va_rf r1] = [(0, .ref a0), (1, va_rf r1)] by simp [lv_args, zrf_cat, zc_r, zc_i, zc_n, zc_l]]
  intro H locs ls hR hS hl
  refine lv_aload_n C.x C.b dJ24_equals_0 rfl (lv_at hl 0 rfl) ?_
  refine z_aload_n C.x C.b dJ24_equals_1 rfl (lv_at hl 1 rfl) ?_
  obtain ⟨h1, h2⟩ := h
  refine lv_acmp_ne (rx := (some a0)) (ry := r1) (tgt := 9) C.x C.b dJ24_equals_2 (by decide) (fun c => ?_) (fun c => ?_)
  · have h := h1 c; clear h1 h2
    refine lv_iconst (v := 0) C.x C.b dJ24_equals_9 (by decide) ?_
    exact z_zret C hQ rfl dJ24_equals_10 h H locs ls hR hS hl
  · have h := h2 c; clear h1 h2
    refine lv_iconst (v := 1) C.x C.b dJ24_equals_5 (by decide) ?_
    refine lv_goto (tgt := 10) C.x C.b dJ24_equals_6 (by decide) ?_
    exact z_zret C hQ rfl dJ24_equals_10 h H locs ls hR hS hl
abbrev wJ0_init : List Cond := ws_ yJ0_init cJ0_init 1 none
set_option maxHeartbeats 4000000 in
theorem mJ0_init {X : zX} {d : Nat} {g : zG} {K : Option Value → zG → Prop} {KX : String → zG → Prop} (hok : zOk X) (a0 : Nat) (h : K none g) : zCal X (d + 1) yJ0_init wJ0_init [.ref a0] g K KX := by
  refine z_enter hok pn_J0 (Nat.le_of_ble_eq_true rfl) (fun E C hQ => ?_)
  have C : zC X (d + 1) E RJ0 cJ0_init 1 none "<init>" := C
  show GW X E 1 g 0 [(0, .ref a0)] []
  intro H locs ls hR hS hl
  refine lv_aload_n C.x C.b dJ0_init_0 rfl (lv_at hl 0 rfl) ?_
  refine z_objInit C hl q129 (Nat.le_of_ble_eq_true rfl) dJ0_init_1 ?_
  exact z_vret C hQ dJ0_init_4 h H locs ls hR hS hl
theorem hdS_J0_init : yJ0_init.cls ≠ "java/lang/invoke/MethodHandle" ∧ yJ0_init.cls ≠ "java/lang/invoke/VarHandle" ∧ (parseMethodDescriptor yJ0_init.desc).map (fun d => d.parameters.length) = some 0 := by decide +kernel
abbrev wJ1_init : List Cond := ws_ yJ1_init cJ1_init 1 none
set_option maxHeartbeats 4000000 in
theorem mJ1_init {X : zX} {d : Nat} {g : zG} {K : Option Value → zG → Prop} {KX : String → zG → Prop} (hok : zOk X) (a0 : Nat) (h : zCal X d yJ0_init wJ0_init [.ref a0] g (fun r g_1 => r = none ∧ ∃ (k_4 : Nat) (fs_2 : List Value), zkc k_4 = 0 ∧ zGo g_1 k_4 a0 = some fs_2 ∧ 0 < fs_2.length ∧ ∀ g_3 : zG, g_3 = zSo g_1 k_4 a0 (fs_2.set 0 (.int 0)) → K none g_3) KX) : zCal X (d + 1) yJ1_init wJ1_init [.ref a0] g K KX := by
  refine z_enter hok pn_J1 (Nat.le_of_ble_eq_true rfl) (fun E C hQ => ?_)
  have C : zC X (d + 1) E RJ1 cJ1_init 1 none "<init>" := C
  show GW X E 1 g 0 [(0, .ref a0)] []
  intro H locs ls hR hS hl
  refine lv_aload_n C.x C.b dJ1_init_0 rfl (lv_at hl 0 rfl) ?_
  refine z_callI C hR hS hl (n := 0) (y := yJ0_init) (bytes := cJ0_init) (maxL := 1) (As := []) (rest := []) (lw_meth q128) q74 q126 q127 rfl hdS_J0_init (by decide) rfl rfl (Nat.le_of_ble_eq_true rfl) dJ1_init_1 h (fun r g_1 hk_ => ?_) (fun x g1 h => z_out C hQ h)
  clear h; obtain ⟨rfl, h⟩ := hk_
  show GW X E 1 g_1 4 [(0, .ref a0)] []
  intro H locs ls hR hS hl
  refine lv_aload_n C.x C.b dJ1_init_4 rfl (lv_at hl 0 rfl) ?_
  refine lv_iconst (v := 0) C.x C.b dJ1_init_5 (by decide) ?_
  obtain ⟨k_4, fs_2, q0, q1, q2, h⟩ := h
  refine z_put C hR hS q1 q0 (ci := 0) rfl in_J2 tyJ2 tyJ2_ok nmJ2 0 (by decide) q136 (fun _ h => h) rfl ⟨rfl, rfl⟩ q2 dJ1_init_6 (fun H locs hR hS => ?_)
  have h := h _ rfl
  generalize zSo g_1 k_4 a0 (fs_2.set 0 (.int 0)) = g_3 at h hR
  exact z_vret C hQ dJ1_init_9 h H locs ls hR hS hl
abbrev wJ4_max : List Cond := ws_ yJ4_max cJ4_max 2 (some .int)
set_option maxHeartbeats 4000000 in
theorem mJ4_max {X : zX} {d : Nat} {g : zG} {K : Option Value → zG → Prop} {KX : String → zG → Prop} (hok : zOk X) (x0 : Int32) (x1 : Int32) (h : (x0 < x1 → K (some (.int x1)) g) ∧ (¬ x0 < x1 → K (some (.int x0)) g)) : zCal X d yJ4_max wJ4_max [.int x0, .int x1] g K KX := by
  refine z_enterF hok pf_J4_max (Nat.le_of_ble_eq_true rfl) (fun E C hQ => ?_)
  have C : zC X d E RJ4 cJ4_max 2 (some .int) "max" := C
  show GW X E 2 g 0 [(0, .int x0), (1, .int x1)] []
  intro H locs ls hR hS hl
  refine lv_iload_n C.x C.b dJ4_max_0 rfl (lv_at hl 0 rfl) ?_
  refine lv_iload_n C.x C.b dJ4_max_1 rfl (lv_at hl 1 rfl) ?_
  obtain ⟨h1, h2⟩ := h
  refine lv_icmp_lt (tgt := 9) C.x C.b dJ4_max_2 (by decide) (fun c => ?_) (fun c => ?_)
  · have h := h1 c; clear h1 h2
    refine lv_iload_n C.x C.b dJ4_max_9 rfl (lv_at hl 1 rfl) ?_
    exact z_iret C hQ dJ4_max_10 h H locs ls hR hS hl
  · have h := h2 c; clear h1 h2
    refine lv_iload_n C.x C.b dJ4_max_5 rfl (lv_at hl 0 rfl) ?_
    refine lv_goto (tgt := 10) C.x C.b dJ4_max_6 (by decide) ?_
    exact z_iret C hQ dJ4_max_10 h H locs ls hR hS hl
abbrev wJ4_min : List Cond := ws_ yJ4_min cJ4_min 2 (some .int)
set_option maxHeartbeats 4000000 in
theorem mJ4_min {X : zX} {d : Nat} {g : zG} {K : Option Value → zG → Prop} {KX : String → zG → Prop} (hok : zOk X) (x0 : Int32) (x1 : Int32) (h : (x1 < x0 → K (some (.int x1)) g) ∧ (¬ x1 < x0 → K (some (.int x0)) g)) : zCal X d yJ4_min wJ4_min [.int x0, .int x1] g K KX := by
  refine z_enterF hok pf_J4_min (Nat.le_of_ble_eq_true rfl) (fun E C hQ => ?_)
  have C : zC X d E RJ4 cJ4_min 2 (some .int) "min" := C
  show GW X E 2 g 0 [(0, .int x0), (1, .int x1)] []
  intro H locs ls hR hS hl
  refine lv_iload_n C.x C.b dJ4_min_0 rfl (lv_at hl 0 rfl) ?_
  refine lv_iload_n C.x C.b dJ4_min_1 rfl (lv_at hl 1 rfl) ?_
  obtain ⟨h1, h2⟩ := h
  refine lv_icmp_gt (tgt := 9) C.x C.b dJ4_min_2 (by decide) (fun c => ?_) (fun c => ?_)
  · have h := h1 c; clear h1 h2
    refine lv_iload_n C.x C.b dJ4_min_9 rfl (lv_at hl 1 rfl) ?_
    exact z_iret C hQ dJ4_min_10 h H locs ls hR hS hl
  · have h := h2 c; clear h1 h2
    refine lv_iload_n C.x C.b dJ4_min_5 rfl (lv_at hl 0 rfl) ?_
    refine lv_goto (tgt := 10) C.x C.b dJ4_min_6 (by decide) ?_
    exact z_iret C hQ dJ4_min_10 h H locs ls hR hS hl
abbrev wJ4_abs : List Cond := ws_ yJ4_abs cJ4_abs 1 (some .int)
set_option maxHeartbeats 4000000 in
theorem mJ4_abs {X : zX} {d : Nat} {g : zG} {K : Option Value → zG → Prop} {KX : String → zG → Prop} (hok : zOk X) (x0 : Int32) (h : (0 ≤ x0 → K (some (.int x0)) g) ∧ (¬ 0 ≤ x0 → K (some (.int (-x0))) g)) : zCal X d yJ4_abs wJ4_abs [.int x0] g K KX := by
  refine z_enterF hok pf_J4_abs (Nat.le_of_ble_eq_true rfl) (fun E C hQ => ?_)
  have C : zC X d E RJ4 cJ4_abs 1 (some .int) "abs" := C
  show GW X E 1 g 0 [(0, .int x0)] []
  intro H locs ls hR hS hl
  refine lv_iload_n C.x C.b dJ4_abs_0 rfl (lv_at hl 0 rfl) ?_
  obtain ⟨h1, h2⟩ := h
  refine lv_if_ge (tgt := 9) C.x C.b dJ4_abs_1 (by decide) (fun c => ?_) (fun c => ?_)
  · have h := h1 c; clear h1 h2
    refine lv_iload_n C.x C.b dJ4_abs_9 rfl (lv_at hl 0 rfl) ?_
    exact z_iret C hQ dJ4_abs_10 h H locs ls hR hS hl
  · have h := h2 c; clear h1 h2
    refine lv_iload_n C.x C.b dJ4_abs_4 rfl (lv_at hl 0 rfl) ?_
    refine lv_ineg C.x C.b dJ4_abs_5 ?_
    refine lv_goto (tgt := 10) C.x C.b dJ4_abs_6 (by decide) ?_
    exact z_iret C hQ dJ4_abs_10 h H locs ls hR hS hl
abbrev wJ21_signum : List Cond := ws_ yJ21_signum cJ21_signum 1 (some .int)
set_option maxHeartbeats 4000000 in
theorem mJ21_signum {X : zX} {d : Nat} {g : zG} {K : Option Value → zG → Prop} {KX : String → zG → Prop} (hok : zOk X) (x0 : Int32) (h : K (some (.int ((x0 >>> (31 &&& 31)) ||| (((-x0).toUInt32 >>> ((31 : Int32).toUInt32 &&& Int32.toUInt32 31)).toInt32)))) g) : zCal X d yJ21_signum wJ21_signum [.int x0] g K KX := by
  refine z_enter hok pn_J21 (Nat.le_of_ble_eq_true rfl) (fun E C hQ => ?_)
  have C : zC X d E RJ21 cJ21_signum 1 (some .int) "signum" := C
  show GW X E 1 g 0 [(0, .int x0)] []
  intro H locs ls hR hS hl
  refine lv_iload_n C.x C.b dJ21_signum_0 rfl (lv_at hl 0 rfl) ?_
  refine lv_bipush (v := 31) C.x C.b dJ21_signum_1 (by decide) ?_
  refine lv_ishr C.x C.b dJ21_signum_3 ?_
  refine lv_iload_n C.x C.b dJ21_signum_4 rfl (lv_at hl 0 rfl) ?_
  refine lv_ineg C.x C.b dJ21_signum_5 ?_
  refine lv_bipush (v := 31) C.x C.b dJ21_signum_6 (by decide) ?_
  refine lv_iushr C.x C.b dJ21_signum_8 rfl ?_
  refine lv_ior C.x C.b dJ21_signum_9 ?_
  exact z_iret C hQ dJ21_signum_10 h H locs ls hR hS hl
abbrev wJ15_checkIndex : List Cond := ws_ yJ15_checkIndex cJ15_checkIndex 3 (some .int)
set_option maxHeartbeats 4000000 in
theorem mJ15_checkIndex {X : zX} {d : Nat} {g : zG} {K : Option Value → zG → Prop} {KX : String → zG → Prop} (hok : zOk X) (x0 : Int32) (x1 : Int32) (r2 : Option Nat) (h : (x0 < 0 → False) ∧ (¬ x0 < 0 → (x0 < x1 → K (some (.int x0)) g) ∧ (¬ x0 < x1 → False))) : zCal X d yJ15_checkIndex wJ15_checkIndex [.int x0, .int x1, va_rf r2] g K KX := by
  refine z_enter hok pn_J15 (by simp [lg_sl, zrf_cat, zc_r, zc_i, zc_n, zc_l]) (fun E C hQ => ?_)
  have C : zC X d E RJ15 cJ15_checkIndex 3 (some .int) "checkIndex" := C
  rw [show lv_args 0 [.int x0, .int x1, va_rf r2] = [(0, .int x0), (1, .int x1), (2, va_rf r2)] by simp [lv_args, zrf_cat, zc_r, zc_i, zc_n, zc_l]]
  intro H locs ls hR hS hl
  refine lv_iload_n C.x C.b dJ15_checkIndex_0 rfl (lv_at hl 0 rfl) ?_
  obtain ⟨h1, h2⟩ := h
  refine lv_if_lt (tgt := 9) C.x C.b dJ15_checkIndex_1 (by decide) (fun c => ?_) (fun c => ?_)
  · have h := h1 c; clear h1 h2
    exact h.elim
  · have h := h2 c; clear h1 h2
    refine lv_iload_n C.x C.b dJ15_checkIndex_4 rfl (lv_at hl 0 rfl) ?_
    refine lv_iload_n C.x C.b dJ15_checkIndex_5 rfl (lv_at hl 1 rfl) ?_
    obtain ⟨h1, h2⟩ := h
    refine lv_icmp_lt (tgt := 16) C.x C.b dJ15_checkIndex_6 (by decide) (fun c => ?_) (fun c => ?_)
    · have h := h1 c; clear h1 h2
      refine lv_iload_n C.x C.b dJ15_checkIndex_16 rfl (lv_at hl 0 rfl) ?_
      exact z_iret C hQ dJ15_checkIndex_17 h H locs ls hR hS hl
    · have h := h2 c; clear h1 h2
      exact h.elim
theorem hdS_J15_checkIndex : yJ15_checkIndex.cls ≠ "java/lang/invoke/MethodHandle" ∧ yJ15_checkIndex.cls ≠ "java/lang/invoke/VarHandle" ∧ (parseMethodDescriptor yJ15_checkIndex.desc).map (fun d => d.parameters.length) = some 3 := by decide +kernel
abbrev wJ14_checkIndex : List Cond := ws_ yJ14_checkIndex cJ14_checkIndex 2 (some .int)
set_option maxHeartbeats 4000000 in
theorem mJ14_checkIndex {X : zX} {d : Nat} {g : zG} {K : Option Value → zG → Prop} {KX : String → zG → Prop} (hok : zOk X) (x0 : Int32) (x1 : Int32) (h : zCal X d yJ15_checkIndex wJ15_checkIndex [.int x0, .int x1, .null] g (fun r g_1 => ∃ v_2 : Int32, r = some (.int v_2) ∧ K (some (.int v_2)) g_1) KX) : zCal X (d + 1) yJ14_checkIndex wJ14_checkIndex [.int x0, .int x1] g K KX := by
  refine z_enter hok pn_J14 (Nat.le_of_ble_eq_true rfl) (fun E C hQ => ?_)
  have C : zC X (d + 1) E RJ14 cJ14_checkIndex 2 (some .int) "checkIndex" := C
  show GW X E 2 g 0 [(0, .int x0), (1, .int x1)] []
  intro H locs ls hR hS hl
  refine lv_iload_n C.x C.b dJ14_checkIndex_0 rfl (lv_at hl 0 rfl) ?_
  refine lv_iload_n C.x C.b dJ14_checkIndex_1 rfl (lv_at hl 1 rfl) ?_
  refine lv_null C.x C.b dJ14_checkIndex_2 ?_
  refine z_callS C hR hS hl (n := 3) (y := yJ15_checkIndex) (bytes := cJ15_checkIndex) (maxL := 3) (rt := (some .int)) (As := [.int x0, .int x1, .null]) (rest := []) (lw_S q389 q390 q93 q391) hdS_J15_checkIndex (by decide) rfl rfl (Nat.le_of_ble_eq_true rfl) dJ14_checkIndex_3 h (fun r g_1 hk_ => ?_) (fun x g1 h => z_out C hQ h)
  clear h; obtain ⟨v_2, rfl, h⟩ := hk_
  show GW X E 2 g_1 6 [(0, .int x0), (1, .int x1)] [.int v_2]
  intro H locs ls hR hS hl
  exact z_iret C hQ dJ14_checkIndex_6 h H locs ls hR hS hl
theorem hdS_J4_max : yJ4_max.cls ≠ "java/lang/invoke/MethodHandle" ∧ yJ4_max.cls ≠ "java/lang/invoke/VarHandle" ∧ (parseMethodDescriptor yJ4_max.desc).map (fun d => d.parameters.length) = some 2 := by decide +kernel
abbrev wJ3_newLength : List Cond := ws_ yJ3_newLength cJ3_newLength 4 (some .int)
set_option maxHeartbeats 4000000 in
theorem mJ3_newLength {X : zX} {d : Nat} {g : zG} {K : Option Value → zG → Prop} {KX : String → zG → Prop} (hok : zOk X) (x0 : Int32) (x1 : Int32) (x2 : Int32) (h : zCal X d yJ4_max wJ4_max [.int x1, .int x2] g (fun r g_1 => ∃ v_2 : Int32, r = some (.int v_2) ∧ ((x0 + v_2) ≤ 0 → False) ∧ (¬ (x0 + v_2) ≤ 0 → (2147483639 < (x0 + v_2) → False) ∧ (¬ 2147483639 < (x0 + v_2) → K (some (.int (x0 + v_2))) g_1))) KX) : zCal X (d + 1) yJ3_newLength wJ3_newLength [.int x0, .int x1, .int x2] g K KX := by
  refine z_enter hok pn_J3 (Nat.le_of_ble_eq_true rfl) (fun E C hQ => ?_)
  have C : zC X (d + 1) E RJ3 cJ3_newLength 4 (some .int) "newLength" := C
  show GW X E 4 g 0 [(0, .int x0), (1, .int x1), (2, .int x2)] []
  intro H locs ls hR hS hl
  refine lv_iload_n C.x C.b dJ3_newLength_0 rfl (lv_at hl 0 rfl) ?_
  refine lv_iload_n C.x C.b dJ3_newLength_1 rfl (lv_at hl 1 rfl) ?_
  refine lv_iload_n C.x C.b dJ3_newLength_2 rfl (lv_at hl 2 rfl) ?_
  refine z_callS C hR hS hl (n := 2) (y := yJ4_max) (bytes := cJ4_max) (maxL := 2) (rt := (some .int)) (As := [.int x1, .int x2]) (rest := [.int x0]) (lw_S q195 q196 q79 q197) hdS_J4_max (by decide) rfl rfl (Nat.le_of_ble_eq_true rfl) dJ3_newLength_3 h (fun r g_1 hk_ => ?_) (fun x g1 h => z_out C hQ h)
  clear h; obtain ⟨v_2, rfl, h⟩ := hk_
  show GW X E 4 g_1 6 [(0, .int x0), (1, .int x1), (2, .int x2)] [.int v_2, .int x0]
  intro H locs ls hR hS hl
  refine lv_iadd C.x C.b dJ3_newLength_6 ?_
  refine lv_istore_n (lv' := [(3, .int (x0 + v_2)), (0, .int x0), (1, .int x1), (2, .int x2)]) C.x C.b dJ3_newLength_7 rfl hl (by decide) rfl (fun ls hl => ?_)
  refine lv_iconst (v := 0) C.x C.b dJ3_newLength_8 (by decide) ?_
  refine lv_iload_n C.x C.b dJ3_newLength_9 rfl (lv_at hl 0 rfl) ?_
  obtain ⟨h1, h2⟩ := h
  refine lv_icmp_ge (tgt := 21) C.x C.b dJ3_newLength_10 (by decide) (fun c => ?_) (fun c => ?_)
  · have h := h1 c; clear h1 h2
    exact h.elim
  · have h := h2 c; clear h1 h2
    refine lv_iload_n C.x C.b dJ3_newLength_13 rfl (lv_at hl 0 rfl) ?_
    refine lv_ldc C.x C.b C.ow (C.ts _ q198) dJ3_newLength_14 ?_
    obtain ⟨h1, h2⟩ := h
    refine lv_icmp_gt (tgt := 21) C.x C.b dJ3_newLength_16 (by decide) (fun c => ?_) (fun c => ?_)
    · have h := h1 c; clear h1 h2
      exact h.elim
    · have h := h2 c; clear h1 h2
      refine lv_iload_n C.x C.b dJ3_newLength_19 rfl (lv_at hl 0 rfl) ?_
      exact z_iret C hQ dJ3_newLength_20 h H locs ls hR hS hl
theorem hdS_J4_min : yJ4_min.cls ≠ "java/lang/invoke/MethodHandle" ∧ yJ4_min.cls ≠ "java/lang/invoke/VarHandle" ∧ (parseMethodDescriptor yJ4_min.desc).map (fun d => d.parameters.length) = some 2 := by decide +kernel
abbrev wJ5_copyOf_2 : List Cond := ws_ yJ5_copyOf_2 cJ5_copyOf_2 4 (some (.array (.object "java/lang/Object")))
set_option maxHeartbeats 4000000 in
theorem mJ5_copyOf_2 {X : zX} {d : Nat} {g : zG} {K : Option Value → zG → Prop} {KX : String → zG → Prop} (hok : zOk X) (a0 : Nat) (x1 : Int32) (a2 : Nat) (h : (¬ a2 = (zm2 X) → False) ∧ (a2 = (zm2 X) → ∃ t_3 : Nat, ¬ t_3 < 64 ∧ ¬ x1 < 0 ∧ x1.toNatClampNeg ≤ 100000 ∧ zGz g + 1 + x1.toNatClampNeg ≤ zz X ∧ ∀ a_1 : Nat, zFr g a_1 → ∀ g_2 : zG, g_2 = (zSz (zSq g t_3 a_1 x1.toNatClampNeg (fun _ => none)) (zGz g + 1 + x1.toNatClampNeg)) → ∃ n_4 : Nat, zlen X g_2 a0 n_4 ∧ ∀ v_5 : Int32, v_5 = Int32.ofNat n_4 → zCal X d yJ4_min wJ4_min [.int v_5, .int x1] g_2 (fun r g_6 => ∃ v_7 : Int32, r = some (.int v_7) ∧ ∃ (t_8 t_9 n_10 n_11 : Nat) (f_12 f_13 : Nat → Option Nat), (zGq g_6 t_8 a0 = some (n_10, f_12) ∧ ¬ t_8 < 64 ∨ n_10 = 0 ∧ (a0 = ze1 X ∨ a0 = ze2 X)) ∧ zGq g_6 t_9 a_1 = some (n_11, f_13) ∧ ¬ t_9 < 64 ∧ ¬ (0 : Int32) < 0 ∧ ¬ (0 : Int32) < 0 ∧ ¬ v_7 < 0 ∧ (0 : Int32).toNatClampNeg + v_7.toNatClampNeg ≤ n_10 ∧ (0 : Int32).toNatClampNeg + v_7.toNatClampNeg ≤ n_11 ∧ (∀ i : Nat, i < v_7.toNatClampNeg → ∀ y : Nat, f_12 ((0 : Int32).toNatClampNeg + i) = some y → zob g_6 y) ∧ ∀ g_14 : zG, g_14 = (zSq g_6 t_9 a_1 n_11 (va_cpy f_12 f_13 (0 : Int32).toNatClampNeg (0 : Int32).toNatClampNeg v_7.toNatClampNeg)) → K (some (.ref a_1)) g_14) KX)) : zCal X (d + 1) yJ5_copyOf_2 wJ5_copyOf_2 [.ref a0, .int x1, .ref a2] g K KX := by
  refine z_enter hok pn_J5 (Nat.le_of_ble_eq_true rfl) (fun E C hQ => ?_)
  have C : zC X (d + 1) E RJ5 cJ5_copyOf_2 4 (some (.array (.object "java/lang/Object"))) "copyOf" := C
  show GW X E 4 g 0 [(0, .ref a0), (1, .int x1), (2, .ref a2)] []
  intro H locs ls hR hS hl
  refine lv_aload_n C.x C.b dJ5_copyOf_2_0 rfl (lv_at hl 2 rfl) ?_
  refine z_ldcM C q232 dJ5_copyOf_2_1 ?_
  obtain ⟨h1, h2⟩ := h
  refine lv_acmp_ne (rx := (some a2)) (ry := (some (zm2 X))) (tgt := 13) C.x C.b dJ5_copyOf_2_3 (by decide) (fun c => ?_) (fun c => ?_)
  · have h := h1 (fun z => c (congrArg some z)); clear h1 h2
    exact h.elim
  · have h := h2 (Option.some.inj c); clear h1 h2
    refine lv_iload_n C.x C.b dJ5_copyOf_2_6 rfl (lv_at hl 1 rfl) ?_
    obtain ⟨t_3, q0, q1, q2, q3, h⟩ := h
    refine z_newQ C hR hS t_3 q0 q234 q1 q2 q3 dJ5_copyOf_2_7 (fun a_1 hf H hR hS => ?_)
    have h := h a_1 hf _ rfl
    generalize (zSz (zSq g t_3 a_1 x1.toNatClampNeg (fun _ => none)) (zGz g + 1 + x1.toNatClampNeg)) = g_2 at h hR
    refine lv_goto (tgt := 24) C.x C.b dJ5_copyOf_2_10 (by decide) ?_
    refine lv_astore_n (lv' := [(3, .ref a_1), (0, .ref a0), (1, .int x1), (2, .ref a2)]) C.x C.b dJ5_copyOf_2_24 rfl hl (by decide) rfl (fun ls hl => ?_)
    refine lv_aload_n C.x C.b dJ5_copyOf_2_25 rfl (lv_at hl 1 rfl) ?_
    refine lv_iconst (v := 0) C.x C.b dJ5_copyOf_2_26 (by decide) ?_
    refine lv_aload_n C.x C.b dJ5_copyOf_2_27 rfl (lv_at hl 0 rfl) ?_
    refine lv_iconst (v := 0) C.x C.b dJ5_copyOf_2_28 (by decide) ?_
    refine lv_aload_n C.x C.b dJ5_copyOf_2_29 rfl (lv_at hl 1 rfl) ?_
    obtain ⟨n_4, q1, h⟩ := h
    refine z_alen C hR hS q1 dJ5_copyOf_2_30 ?_
    have h := h _ rfl
    generalize Int32.ofNat n_4 = v_5 at h ⊢
    refine lv_iload_n C.x C.b dJ5_copyOf_2_31 rfl (lv_at hl 2 rfl) ?_
    refine z_callS C hR hS hl (n := 2) (y := yJ4_min) (bytes := cJ4_min) (maxL := 2) (rt := (some .int)) (As := [.int v_5, .int x1]) (rest := [.int 0, .ref a_1, .int 0, .ref a0]) (lw_S q235 q236 q79 q237) hdS_J4_min (by decide) rfl rfl (Nat.le_of_ble_eq_true rfl) dJ5_copyOf_2_32 h (fun r g_6 hk_ => ?_) (fun x g1 h => z_out C hQ h)
    clear h; obtain ⟨v_7, rfl, h⟩ := hk_
    show GW X E 4 g_6 35 [(3, .ref a_1), (0, .ref a0), (1, .int x1), (2, .ref a2)] [.int v_7, .int 0, .ref a_1, .int 0, .ref a0]
    intro H locs ls hR hS hl
    obtain ⟨t_8, t_9, n_10, n_11, f_12, f_13, q1, q2, q4, q5, q6, q7, q8, q9, q10, h⟩ := h
    refine z_copy2 C hR hS hl q238 q1 q2 q4 q5 q6 q7 q8 q9 q10 (Nat.le_of_ble_eq_true rfl) dJ5_copyOf_2_35 (fun H locs hR hS => ?_)
    have h := h _ rfl
    generalize (zSq g_6 t_9 a_1 n_11 (va_cpy f_12 f_13 (0 : Int32).toNatClampNeg (0 : Int32).toNatClampNeg v_7.toNatClampNeg)) = g_14 at h hR
    refine lv_aload_n C.x C.b dJ5_copyOf_2_38 rfl (lv_at hl 0 rfl) ?_
    exact z_aret C hQ (Or.inr ⟨_, rfl⟩) (Or.inr ⟨_, rfl⟩) dJ5_copyOf_2_39 h H locs ls hR hS hl
theorem hdS_J5_copyOf_2 : yJ5_copyOf_2.cls ≠ "java/lang/invoke/MethodHandle" ∧ yJ5_copyOf_2.cls ≠ "java/lang/invoke/VarHandle" ∧ (parseMethodDescriptor yJ5_copyOf_2.desc).map (fun d => d.parameters.length) = some 3 := by decide +kernel
abbrev wJ5_copyOf : List Cond := ws_ yJ5_copyOf cJ5_copyOf 2 (some (.array (.object "java/lang/Object")))
set_option maxHeartbeats 4000000 in
theorem mJ5_copyOf {X : zX} {d : Nat} {g : zG} {K : Option Value → zG → Prop} {KX : String → zG → Prop} (hok : zOk X) (a0 : Nat) (x1 : Int32) (h : ∃ (t_1 n_2 : Nat) (f_3 : Nat → Option Nat), (zGq g t_1 a0 = some (n_2, f_3) ∧ ¬ t_1 < 64 ∨ a0 = ze1 X ∨ a0 = ze2 X) ∧ zCal X d yJ5_copyOf_2 wJ5_copyOf_2 [.ref a0, .int x1, .ref (zm2 X)] g (fun r g_4 => ∃ a_6 : Nat, r = some (.ref a_6) ∧ K (some (.ref a_6)) g_4) KX) : zCal X (d + 1) yJ5_copyOf wJ5_copyOf [.ref a0, .int x1] g K KX := by
  refine z_enter hok pn_J5 (Nat.le_of_ble_eq_true rfl) (fun E C hQ => ?_)
  have C : zC X (d + 1) E RJ5 cJ5_copyOf 2 (some (.array (.object "java/lang/Object"))) "copyOf" := C
  show GW X E 2 g 0 [(0, .ref a0), (1, .int x1)] []
  intro H locs ls hR hS hl
  refine lv_aload_n C.x C.b dJ5_copyOf_0 rfl (lv_at hl 0 rfl) ?_
  refine lv_iload_n C.x C.b dJ5_copyOf_1 rfl (lv_at hl 1 rfl) ?_
  refine lv_aload_n C.x C.b dJ5_copyOf_2 rfl (lv_at hl 0 rfl) ?_
  obtain ⟨t_1, n_2, f_3, q1, h⟩ := h
  refine z_getC C hR hS hl q1 (Nat.le_of_ble_eq_true rfl) dJ5_copyOf_3 ?_
  refine z_callS C hR hS hl (n := 3) (y := yJ5_copyOf_2) (bytes := cJ5_copyOf_2) (maxL := 4) (rt := (some (.array (.object "java/lang/Object")))) (As := [.ref a0, .int x1, .ref (zm2 X)]) (rest := []) (lw_S q229 q230 q80 q231) hdS_J5_copyOf_2 (by decide) rfl rfl (Nat.le_of_ble_eq_true rfl) dJ5_copyOf_6 h (fun r g_4 hk_ => ?_) (fun x g1 h => z_out C hQ h)
  clear h; obtain ⟨a_6, rfl, h⟩ := hk_
  show GW X E 2 g_4 9 [(0, .ref a0), (1, .int x1)] [.ref a_6]
  intro H locs ls hR hS hl
  exact z_aret C hQ (Or.inr ⟨_, rfl⟩) (Or.inr ⟨_, rfl⟩) dJ5_copyOf_9 h H locs ls hR hS hl
theorem hdS_J1_init : yJ1_init.cls ≠ "java/lang/invoke/MethodHandle" ∧ yJ1_init.cls ≠ "java/lang/invoke/VarHandle" ∧ (parseMethodDescriptor yJ1_init.desc).map (fun d => d.parameters.length) = some 0 := by decide +kernel
abbrev wJ2_init : List Cond := ws_ yJ2_init cJ2_init 1 none
set_option maxHeartbeats 4000000 in
theorem mJ2_init {X : zX} {d : Nat} {g : zG} {K : Option Value → zG → Prop} {KX : String → zG → Prop} (hok : zOk X) (a0 : Nat) (h : zCal X d yJ1_init wJ1_init [.ref a0] g (fun r g_1 => r = none ∧ ∃ (k_4 : Nat) (fs_2 : List Value), zkc k_4 = 0 ∧ zGo g_1 k_4 a0 = some fs_2 ∧ 1 < fs_2.length ∧ ∀ g_3 : zG, g_3 = zSo g_1 k_4 a0 (fs_2.set 1 (.ref (ze2 X))) → K none g_3) KX) : zCal X (d + 1) yJ2_init wJ2_init [.ref a0] g K KX := by
  refine z_enter hok pn_J2 (Nat.le_of_ble_eq_true rfl) (fun E C hQ => ?_)
  have C : zC X (d + 1) E RJ2 cJ2_init 1 none "<init>" := C
  show GW X E 1 g 0 [(0, .ref a0)] []
  intro H locs ls hR hS hl
  refine lv_aload_n C.x C.b dJ2_init_0 rfl (lv_at hl 0 rfl) ?_
  refine z_callI C hR hS hl (n := 0) (y := yJ1_init) (bytes := cJ1_init) (maxL := 1) (As := []) (rest := []) (lw_meth q125) q75 q123 q124 rfl hdS_J1_init (by decide) rfl rfl (Nat.le_of_ble_eq_true rfl) dJ2_init_1 h (fun r g_1 hk_ => ?_) (fun x g1 h => z_out C hQ h)
  clear h; obtain ⟨rfl, h⟩ := hk_
  show GW X E 1 g_1 4 [(0, .ref a0)] []
  intro H locs ls hR hS hl
  refine lv_aload_n C.x C.b dJ2_init_4 rfl (lv_at hl 0 rfl) ?_
  refine z_gets2 C hS q130 dJ2_init_5 ?_
  obtain ⟨k_4, fs_2, q0, q1, q2, h⟩ := h
  refine z_put C hR hS q1 q0 (ci := 0) rfl in_J2 tyJ2 tyJ2_ok nmJ2 1 (by decide) q132 (fun _ h => h) rfl ⟨rfl, rfl⟩ q2 dJ2_init_8 (fun H locs hR hS => ?_)
  have h := h _ rfl
  generalize zSo g_1 k_4 a0 (fs_2.set 1 (.ref (ze2 X))) = g_3 at h hR
  exact z_vret C hQ dJ2_init_11 h H locs ls hR hS hl
abbrev wJ2_size : List Cond := ws_ yJ2_size cJ2_size 1 (some .int)
set_option maxHeartbeats 4000000 in
theorem mJ2_size {X : zX} {d : Nat} {g : zG} {K : Option Value → zG → Prop} {KX : String → zG → Prop} (hok : zOk X) (a0 : Nat) (h : ∃ (k_2 : Nat) (fs_1 : List Value) (v_3 : Int32), zkc k_2 = 0 ∧ zGo g k_2 a0 = some fs_1 ∧ fs_1[2]? = some (.int v_3) ∧ K (some (.int v_3)) g) : zCal X d yJ2_size wJ2_size [.ref a0] g K KX := by
  refine z_enter hok pn_J2 (Nat.le_of_ble_eq_true rfl) (fun E C hQ => ?_)
  have C : zC X d E RJ2 cJ2_size 1 (some .int) "size" := C
  show GW X E 1 g 0 [(0, .ref a0)] []
  intro H locs ls hR hS hl
  refine lv_aload_n C.x C.b dJ2_size_0 rfl (lv_at hl 0 rfl) ?_
  obtain ⟨k_2, fs_1, v_3, q0, q1, q2, h⟩ := h
  refine z_get C hR q1 q0 (ci := 0) rfl in_J2 2 (by decide) q135 (fun _ h => h) q2 dJ2_size_1 ?_
  exact z_iret C hQ dJ2_size_4 h H locs ls hR hS hl
abbrev wJ2_elementData : List Cond := ws_ yJ2_elementData cJ2_elementData 2 (some (.object "java/lang/Object"))
set_option maxHeartbeats 4000000 in
theorem mJ2_elementData {X : zX} {d : Nat} {g : zG} {K : Option Value → zG → Prop} {KX : String → zG → Prop} (hok : zOk X) (a0 : Nat) (x1 : Int32) (h : ∃ (k_2 : Nat) (fs_1 : List Value) (a_3 : Nat), zkc k_2 = 0 ∧ zGo g k_2 a0 = some fs_1 ∧ fs_1[1]? = some (.ref a_3) ∧ ∃ (t_4 n_5 : Nat) (f_6 : Nat → Option Nat), zGq g t_4 a_3 = some (n_5, f_6) ∧ vp_in x1 n_5 ∧ ∀ r_7 : Option Nat, r_7 = f_6 x1.toNatClampNeg → K (some (va_rf r_7)) g) : zCal X d yJ2_elementData wJ2_elementData [.ref a0, .int x1] g K KX := by
  refine z_enter hok pn_J2 (Nat.le_of_ble_eq_true rfl) (fun E C hQ => ?_)
  have C : zC X d E RJ2 cJ2_elementData 2 (some (.object "java/lang/Object")) "elementData" := C
  show GW X E 2 g 0 [(0, .ref a0), (1, .int x1)] []
  intro H locs ls hR hS hl
  refine lv_aload_n C.x C.b dJ2_elementData_0 rfl (lv_at hl 0 rfl) ?_
  obtain ⟨k_2, fs_1, a_3, q0, q1, q2, h⟩ := h
  refine z_get C hR q1 q0 (ci := 0) rfl in_J2 1 (by decide) q132 (fun _ h => h) q2 dJ2_elementData_1 ?_
  refine lv_iload_n C.x C.b dJ2_elementData_4 rfl (lv_at hl 1 rfl) ?_
  obtain ⟨t_4, n_5, f_6, q1, q2, h⟩ := h
  refine z_aald C hR q1 q2 dJ2_elementData_5 ?_
  have h := h _ rfl
  generalize f_6 x1.toNatClampNeg = r_7 at h ⊢
  exact z_aret C hQ (Or.inl ⟨_, rfl⟩) (zrf_rf _) dJ2_elementData_6 h H locs ls hR hS hl
theorem hdS_J14_checkIndex : yJ14_checkIndex.cls ≠ "java/lang/invoke/MethodHandle" ∧ yJ14_checkIndex.cls ≠ "java/lang/invoke/VarHandle" ∧ (parseMethodDescriptor yJ14_checkIndex.desc).map (fun d => d.parameters.length) = some 2 := by decide +kernel
theorem hdV_J2_elementData : yJ2_elementData.cls = RJ2 ∧ yJ2_elementData.cls ≠ "java/lang/invoke/MethodHandle" ∧ yJ2_elementData.cls ≠ "java/lang/invoke/VarHandle" ∧ (parseMethodDescriptor yJ2_elementData.desc).map (fun d => d.parameters.length) = some 1 := by decide +kernel
abbrev wJ2_get : List Cond := ws_ yJ2_get cJ2_get 2 (some (.object "java/lang/Object"))
set_option maxHeartbeats 4000000 in
theorem mJ2_get {X : zX} {d : Nat} {g : zG} {K : Option Value → zG → Prop} {KX : String → zG → Prop} (hok : zOk X) (a0 : Nat) (x1 : Int32) (h : ∃ (k_2 : Nat) (fs_1 : List Value) (v_3 : Int32), zkc k_2 = 0 ∧ zGo g k_2 a0 = some fs_1 ∧ fs_1[2]? = some (.int v_3) ∧ zCal X d yJ14_checkIndex wJ14_checkIndex [.int x1, .int v_3] g (fun r g_4 => ∃ v_5 : Int32, r = some (.int v_5) ∧ zIs g_4 0 a0 ∧ zCal X d yJ2_elementData wJ2_elementData [.ref a0, .int x1] g_4 (fun r g_6 => ∃ r_7 : Option Nat, r = some (va_rf r_7) ∧ K (some (va_rf r_7)) g_6) KX) KX) : zCal X (d + 1) yJ2_get wJ2_get [.ref a0, .int x1] g K KX := by
  refine z_enter hok pn_J2 (Nat.le_of_ble_eq_true rfl) (fun E C hQ => ?_)
  have C : zC X (d + 1) E RJ2 cJ2_get 2 (some (.object "java/lang/Object")) "get" := C
  show GW X E 2 g 0 [(0, .ref a0), (1, .int x1)] []
  intro H locs ls hR hS hl
  refine lv_iload_n C.x C.b dJ2_get_0 rfl (lv_at hl 1 rfl) ?_
  refine lv_aload_n C.x C.b dJ2_get_1 rfl (lv_at hl 0 rfl) ?_
  obtain ⟨k_2, fs_1, v_3, q0, q1, q2, h⟩ := h
  refine z_get C hR q1 q0 (ci := 0) rfl in_J2 2 (by decide) q135 (fun _ h => h) q2 dJ2_get_2 ?_
  refine z_callS C hR hS hl (n := 2) (y := yJ14_checkIndex) (bytes := cJ14_checkIndex) (maxL := 2) (rt := (some .int)) (As := [.int x1, .int v_3]) (rest := []) (lw_S q386 q387 q92 q388) hdS_J14_checkIndex (by decide) rfl rfl (Nat.le_of_ble_eq_true rfl) dJ2_get_5 h (fun r g_4 hk_ => ?_) (fun x g1 h => z_out C hQ h)
  clear h; obtain ⟨v_5, rfl, h⟩ := hk_
  show GW X E 2 g_4 8 [(0, .ref a0), (1, .int x1)] [.int v_5]
  intro H locs ls hR hS hl
  refine lv_pop C.x C.b dJ2_get_8 rfl ?_
  refine lv_aload_n C.x C.b dJ2_get_9 rfl (lv_at hl 0 rfl) ?_
  refine lv_iload_n C.x C.b dJ2_get_10 rfl (lv_at hl 1 rfl) ?_
  refine z_callV C hR hS hl (n := 1) (C1 := RJ2) (T := TJ2) (N := 3) (ci := 0) (y := yJ2_elementData) (bytes := cJ2_elementData) (maxL := 2) (rt := (some (.object "java/lang/Object"))) (As := [.int x1]) (rest := []) h.1 rfl (lw_V q392 q393 q394 q76 q395) hdV_J2_elementData (by decide) rfl rfl (Nat.le_of_ble_eq_true rfl) dJ2_get_11 h.2 (fun r g_6 hk_ => ?_) (fun x g1 h => z_out C hQ h)
  clear h; obtain ⟨r_7, rfl, h⟩ := hk_
  show GW X E 2 g_6 14 [(0, .ref a0), (1, .int x1)] [va_rf r_7]
  intro H locs ls hR hS hl
  exact z_aret C hQ (Or.inl ⟨_, rfl⟩) (zrf_rf _) dJ2_get_14 h H locs ls hR hS hl
abbrev wJ2_clear : List Cond := ws_ yJ2_clear cJ2_clear 4 none
set_option maxHeartbeats 4000000 in
theorem bJ2_clear_27 {X : zX} {d : Nat} {E : zM} {K : Option Value → zG → Prop} {KX : String → zG → Prop} (C : zC X d E RJ2 cJ2_clear 4 none "clear") (hQ : zQ X E K KX) (g : zG) (a1 : Nat) (x2 : Int32) (x3 : Int32) (h : (x2 ≤ x3 → K none g) ∧ (¬ x2 ≤ x3 → ∃ (t_1 n_2 : Nat) (f_3 : Nat → Option Nat), zGq g t_1 a1 = some (n_2, f_3) ∧ ¬ t_1 < 64 ∧ vp_in x3 n_2 ∧ ∀ g_4 : zG, g_4 = zSq g t_1 a1 n_2 (va_up f_3 x3.toNatClampNeg none) → GW X E 4 g_4 27 [(1, .ref a1), (2, .int x2), (3, .int (x3 + 1))] [])) : GW X E 4 g 27 [(1, .ref a1), (2, .int x2), (3, .int x3)] [] := by
  intro H locs ls hR hS hl
  refine lv_iload_n C.x C.b dJ2_clear_27 rfl (lv_at hl 2 rfl) ?_
  refine lv_iload_n C.x C.b dJ2_clear_28 rfl (lv_at hl 1 rfl) ?_
  obtain ⟨h1, h2⟩ := h
  refine lv_icmp_ge (tgt := 42) C.x C.b dJ2_clear_29 (by decide) (fun c => ?_) (fun c => ?_)
  · have h := h1 c; clear h1 h2
    exact z_vret C hQ dJ2_clear_42 h H locs ls hR hS hl
  · have h := h2 c; clear h1 h2
    refine lv_aload_n C.x C.b dJ2_clear_32 rfl (lv_at hl 0 rfl) ?_
    refine lv_iload_n C.x C.b dJ2_clear_33 rfl (lv_at hl 2 rfl) ?_
    refine lv_null C.x C.b dJ2_clear_34 ?_
    obtain ⟨t_1, n_2, f_3, q1, q2, q3, h⟩ := h
    refine z_aastN C hR hS q1 q2 q3 dJ2_clear_35 (fun H locs hR hS => ?_)
    have h := h _ rfl
    generalize zSq g t_1 a1 n_2 (va_up f_3 x3.toNatClampNeg none) = g_4 at h hR
    refine lv_iinc (v := x3 + 1) (lv' := [(3, .int (x3 + 1)), (1, .ref a1), (2, .int x2)]) C.x C.b dJ2_clear_36 hl (k := 2) rfl rfl (by decide) rfl (fun ls hl => ?_)
    refine lv_goto (tgt := 27) C.x C.b dJ2_clear_39 (by decide) ?_
    exact h H locs ls hR hS (lv_sub hl [1, 2, 0] rfl)
set_option maxHeartbeats 4000000 in
theorem mJ2_clear {X : zX} {d : Nat} {g : zG} {K : Option Value → zG → Prop} {KX : String → zG → Prop} (hok : zOk X) (a0 : Nat) (h : ∀ E : zM, zC X d E RJ2 cJ2_clear 4 none "clear" → zQ X E K KX → ∃ (k_2 : Nat) (fs_1 : List Value) (v_3 : Int32), zkc k_2 = 0 ∧ zGo g k_2 a0 = some fs_1 ∧ fs_1[0]? = some (.int v_3) ∧ ∃ (k_6 : Nat) (fs_4 : List Value), zkc k_6 = 0 ∧ zGo g k_6 a0 = some fs_4 ∧ 0 < fs_4.length ∧ ∀ g_5 : zG, g_5 = zSo g k_6 a0 (fs_4.set 0 (.int (v_3 + 1))) → ∃ (k_8 : Nat) (fs_7 : List Value) (a_9 : Nat), zkc k_8 = 0 ∧ zGo g_5 k_8 a0 = some fs_7 ∧ fs_7[1]? = some (.ref a_9) ∧ ∃ (k_11 : Nat) (fs_10 : List Value) (v_12 : Int32), zkc k_11 = 0 ∧ zGo g_5 k_11 a0 = some fs_10 ∧ fs_10[2]? = some (.int v_12) ∧ ∃ (k_15 : Nat) (fs_13 : List Value), zkc k_15 = 0 ∧ zGo g_5 k_15 a0 = some fs_13 ∧ 2 < fs_13.length ∧ ∀ g_14 : zG, g_14 = zSo g_5 k_15 a0 (fs_13.set 2 (.int 0)) → GW X E 4 g_14 27 [(1, .ref a_9), (2, .int v_12), (3, .int 0)] []) : zCal X d yJ2_clear wJ2_clear [.ref a0] g K KX := by
  refine z_enter hok pn_J2 (Nat.le_of_ble_eq_true rfl) (fun E C hQ => ?_)
  have C : zC X d E RJ2 cJ2_clear 4 none "clear" := C
  have h := h E C hQ
  show GW X E 4 g 0 [(0, .ref a0)] []
  intro H locs ls hR hS hl
  refine lv_aload_n C.x C.b dJ2_clear_0 rfl (lv_at hl 0 rfl) ?_
  refine lv_dup C.x C.b dJ2_clear_1 rfl ?_
  obtain ⟨k_2, fs_1, v_3, q0, q1, q2, h⟩ := h
  refine z_get C hR q1 q0 (ci := 0) rfl in_J2 0 (by decide) q139 (u_same (C.ts _ q138)) q2 dJ2_clear_2 ?_
  refine lv_iconst (v := 1) C.x C.b dJ2_clear_5 (by decide) ?_
  refine lv_iadd C.x C.b dJ2_clear_6 ?_
  obtain ⟨k_6, fs_4, q0, q1, q2, h⟩ := h
  refine z_put C hR hS q1 q0 (ci := 0) rfl in_J2 tyJ2 tyJ2_ok nmJ2 0 (by decide) q139 (u_same (C.ts _ q138)) rfl ⟨rfl, rfl⟩ q2 dJ2_clear_7 (fun H locs hR hS => ?_)
  have h := h _ rfl
  generalize zSo g k_6 a0 (fs_4.set 0 (.int (v_3 + 1))) = g_5 at h hR
  refine lv_aload_n C.x C.b dJ2_clear_10 rfl (lv_at hl 0 rfl) ?_
  obtain ⟨k_8, fs_7, a_9, q0, q1, q2, h⟩ := h
  refine z_get C hR q1 q0 (ci := 0) rfl in_J2 1 (by decide) q132 (fun _ h => h) q2 dJ2_clear_11 ?_
  refine lv_astore_n (lv' := [(1, .ref a_9), (0, .ref a0)]) C.x C.b dJ2_clear_14 rfl hl (by decide) rfl (fun ls hl => ?_)
  refine lv_aload_n C.x C.b dJ2_clear_15 rfl (lv_at hl 1 rfl) ?_
  obtain ⟨k_11, fs_10, v_12, q0, q1, q2, h⟩ := h
  refine z_get C hR q1 q0 (ci := 0) rfl in_J2 2 (by decide) q135 (fun _ h => h) q2 dJ2_clear_16 ?_
  refine lv_istore_n (lv' := [(2, .int v_12), (1, .ref a_9), (0, .ref a0)]) C.x C.b dJ2_clear_19 rfl hl (by decide) rfl (fun ls hl => ?_)
  refine lv_aload_n C.x C.b dJ2_clear_20 rfl (lv_at hl 2 rfl) ?_
  refine lv_iconst (v := 0) C.x C.b dJ2_clear_21 (by decide) ?_
  refine lv_dup_x1 C.x C.b dJ2_clear_22 rfl rfl ?_
  obtain ⟨k_15, fs_13, q0, q1, q2, h⟩ := h
  refine z_put C hR hS q1 q0 (ci := 0) rfl in_J2 tyJ2 tyJ2_ok nmJ2 2 (by decide) q135 (fun _ h => h) rfl ⟨rfl, rfl⟩ q2 dJ2_clear_23 (fun H locs hR hS => ?_)
  have h := h _ rfl
  generalize zSo g_5 k_15 a0 (fs_13.set 2 (.int 0)) = g_14 at h hR
  refine lv_istore_n (lv' := [(3, .int 0), (2, .int v_12), (1, .ref a_9), (0, .ref a0)]) C.x C.b dJ2_clear_26 rfl hl (by decide) rfl (fun ls hl => ?_)
  exact h H locs ls hR hS (lv_sub hl [2, 1, 0] rfl)
theorem hdS_J3_newLength : yJ3_newLength.cls ≠ "java/lang/invoke/MethodHandle" ∧ yJ3_newLength.cls ≠ "java/lang/invoke/VarHandle" ∧ (parseMethodDescriptor yJ3_newLength.desc).map (fun d => d.parameters.length) = some 3 := by decide +kernel
theorem hdS_J5_copyOf : yJ5_copyOf.cls ≠ "java/lang/invoke/MethodHandle" ∧ yJ5_copyOf.cls ≠ "java/lang/invoke/VarHandle" ∧ (parseMethodDescriptor yJ5_copyOf.desc).map (fun d => d.parameters.length) = some 2 := by decide +kernel
abbrev wJ2_grow_2 : List Cond := ws_ yJ2_grow_2 cJ2_grow_2 4 (some (.array (.object "java/lang/Object")))
set_option maxHeartbeats 4000000 in
theorem bJ2_grow_2_20 {X : zX} {d : Nat} {E : zM} {K : Option Value → zG → Prop} {KX : String → zG → Prop} (C : zC X (d + 1) E RJ2 cJ2_grow_2 4 (some (.array (.object "java/lang/Object"))) "grow") (hQ : zQ X E K KX) (g : zG) (a0 : Nat) (x1 : Int32) (x2 : Int32) (h : zCal X d yJ3_newLength wJ3_newLength [.int x2, .int (x1 - x2), .int (x2 >>> (1 &&& 31))] g (fun r g_1 => ∃ v_2 : Int32, r = some (.int v_2) ∧ ∃ (k_4 : Nat) (fs_3 : List Value) (a_5 : Nat), zkc k_4 = 0 ∧ zGo g_1 k_4 a0 = some fs_3 ∧ fs_3[1]? = some (.ref a_5) ∧ zCal X d yJ5_copyOf wJ5_copyOf [.ref a_5, .int v_2] g_1 (fun r g_6 => ∃ a_8 : Nat, r = some (.ref a_8) ∧ ∃ (k_11 : Nat) (fs_9 : List Value), zkc k_11 = 0 ∧ zGo g_6 k_11 a0 = some fs_9 ∧ 1 < fs_9.length ∧ ∀ g_10 : zG, g_10 = zSo g_6 k_11 a0 (fs_9.set 1 (.ref a_8)) → K (some (.ref a_8)) g_10) KX) KX) : GW X E 4 g 20 [(0, .ref a0), (1, .int x1), (2, .int x2)] [] := by
  intro H locs ls hR hS hl
  refine lv_iload_n C.x C.b dJ2_grow_2_20 rfl (lv_at hl 2 rfl) ?_
  refine lv_iload_n C.x C.b dJ2_grow_2_21 rfl (lv_at hl 1 rfl) ?_
  refine lv_iload_n C.x C.b dJ2_grow_2_22 rfl (lv_at hl 2 rfl) ?_
  refine lv_isub C.x C.b dJ2_grow_2_23 ?_
  refine lv_iload_n C.x C.b dJ2_grow_2_24 rfl (lv_at hl 2 rfl) ?_
  refine lv_iconst (v := 1) C.x C.b dJ2_grow_2_25 (by decide) ?_
  refine lv_ishr C.x C.b dJ2_grow_2_26 ?_
  refine z_callS C hR hS hl (n := 3) (y := yJ3_newLength) (bytes := cJ3_newLength) (maxL := 4) (rt := (some .int)) (As := [.int x2, .int (x1 - x2), .int (x2 >>> (1 &&& 31))]) (rest := []) (lw_S q192 q193 q78 q194) hdS_J3_newLength (by decide) rfl rfl (Nat.le_of_ble_eq_true rfl) dJ2_grow_2_27 h (fun r g_1 hk_ => ?_) (fun x g1 h => z_out C hQ h)
  clear h; obtain ⟨v_2, rfl, h⟩ := hk_
  show GW X E 4 g_1 30 [(0, .ref a0), (1, .int x1), (2, .int x2)] [.int v_2]
  intro H locs ls hR hS hl
  refine lv_istore_n (lv' := [(3, .int v_2), (0, .ref a0), (1, .int x1), (2, .int x2)]) C.x C.b dJ2_grow_2_30 rfl hl (by decide) rfl (fun ls hl => ?_)
  refine lv_aload_n C.x C.b dJ2_grow_2_31 rfl (lv_at hl 1 rfl) ?_
  refine lv_aload_n C.x C.b dJ2_grow_2_32 rfl (lv_at hl 1 rfl) ?_
  obtain ⟨k_4, fs_3, a_5, q0, q1, q2, h⟩ := h
  refine z_get C hR q1 q0 (ci := 0) rfl in_J2 1 (by decide) q132 (fun _ h => h) q2 dJ2_grow_2_33 ?_
  refine lv_iload_n C.x C.b dJ2_grow_2_36 rfl (lv_at hl 0 rfl) ?_
  refine z_callS C hR hS hl (n := 2) (y := yJ5_copyOf) (bytes := cJ5_copyOf) (maxL := 2) (rt := (some (.array (.object "java/lang/Object")))) (As := [.ref a_5, .int v_2]) (rest := [.ref a0]) (lw_S q202 q203 q80 q204) hdS_J5_copyOf (by decide) rfl rfl (Nat.le_of_ble_eq_true rfl) dJ2_grow_2_37 h (fun r g_6 hk_ => ?_) (fun x g1 h => z_out C hQ h)
  clear h; obtain ⟨a_8, rfl, h⟩ := hk_
  show GW X E 4 g_6 40 [(3, .int v_2), (0, .ref a0), (1, .int x1), (2, .int x2)] [.ref a_8, .ref a0]
  intro H locs ls hR hS hl
  refine lv_dup_x1 C.x C.b dJ2_grow_2_40 rfl rfl ?_
  obtain ⟨k_11, fs_9, q0, q1, q2, h⟩ := h
  refine z_put C hR hS q1 q0 (ci := 0) rfl in_J2 tyJ2 tyJ2_ok nmJ2 1 (by decide) q132 (fun _ h => h) rfl ⟨rfl, rfl⟩ q2 dJ2_grow_2_41 (fun H locs hR hS => ?_)
  have h := h _ rfl
  generalize zSo g_6 k_11 a0 (fs_9.set 1 (.ref a_8)) = g_10 at h hR
  exact z_aret C hQ (Or.inr ⟨_, rfl⟩) (Or.inr ⟨_, rfl⟩) dJ2_grow_2_44 h H locs ls hR hS hl
set_option maxHeartbeats 4000000 in
theorem mJ2_grow_2 {X : zX} {d : Nat} {g : zG} {K : Option Value → zG → Prop} {KX : String → zG → Prop} (hok : zOk X) (a0 : Nat) (x1 : Int32) (h : ∀ E : zM, zC X (d + 1) E RJ2 cJ2_grow_2 4 (some (.array (.object "java/lang/Object"))) "grow" → zQ X E K KX → ∃ (k_2 : Nat) (fs_1 : List Value) (a_3 : Nat), zkc k_2 = 0 ∧ zGo g k_2 a0 = some fs_1 ∧ fs_1[1]? = some (.ref a_3) ∧ ∃ n_4 : Nat, zlen X g a_3 n_4 ∧ ∀ v_5 : Int32, v_5 = Int32.ofNat n_4 → (0 < v_5 → GW X E 4 g 20 [(0, .ref a0), (1, .int x1), (2, .int v_5)] []) ∧ (¬ 0 < v_5 → ∃ (k_7 : Nat) (fs_6 : List Value) (a_8 : Nat), zkc k_7 = 0 ∧ zGo g k_7 a0 = some fs_6 ∧ fs_6[1]? = some (.ref a_8) ∧ (a_8 = (ze2 X) → zCal X d yJ4_max wJ4_max [.int 10, .int x1] g (fun r g_9 => ∃ v_10 : Int32, r = some (.int v_10) ∧ ∃ t_13 : Nat, ¬ t_13 < 64 ∧ ¬ v_10 < 0 ∧ v_10.toNatClampNeg ≤ 100000 ∧ zGz g_9 + 1 + v_10.toNatClampNeg ≤ zz X ∧ ∀ a_11 : Nat, zFr g_9 a_11 → ∀ g_12 : zG, g_12 = (zSz (zSq g_9 t_13 a_11 v_10.toNatClampNeg (fun _ => none)) (zGz g_9 + 1 + v_10.toNatClampNeg)) → ∃ (k_16 : Nat) (fs_14 : List Value), zkc k_16 = 0 ∧ zGo g_12 k_16 a0 = some fs_14 ∧ 1 < fs_14.length ∧ ∀ g_15 : zG, g_15 = zSo g_12 k_16 a0 (fs_14.set 1 (.ref a_11)) → K (some (.ref a_11)) g_15) KX) ∧ (¬ a_8 = (ze2 X) → GW X E 4 g 20 [(0, .ref a0), (1, .int x1), (2, .int v_5)] []))) : zCal X (d + 1) yJ2_grow_2 wJ2_grow_2 [.ref a0, .int x1] g K KX := by
  refine z_enter hok pn_J2 (Nat.le_of_ble_eq_true rfl) (fun E C hQ => ?_)
  have C : zC X (d + 1) E RJ2 cJ2_grow_2 4 (some (.array (.object "java/lang/Object"))) "grow" := C
  have h := h E C hQ
  show GW X E 4 g 0 [(0, .ref a0), (1, .int x1)] []
  intro H locs ls hR hS hl
  refine lv_aload_n C.x C.b dJ2_grow_2_0 rfl (lv_at hl 0 rfl) ?_
  obtain ⟨k_2, fs_1, a_3, q0, q1, q2, h⟩ := h
  refine z_get C hR q1 q0 (ci := 0) rfl in_J2 1 (by decide) q132 (fun _ h => h) q2 dJ2_grow_2_1 ?_
  obtain ⟨n_4, q1, h⟩ := h
  refine z_alen C hR hS q1 dJ2_grow_2_4 ?_
  have h := h _ rfl
  generalize Int32.ofNat n_4 = v_5 at h ⊢
  refine lv_istore_n (lv' := [(2, .int v_5), (0, .ref a0), (1, .int x1)]) C.x C.b dJ2_grow_2_5 rfl hl (by decide) rfl (fun ls hl => ?_)
  refine lv_iload_n C.x C.b dJ2_grow_2_6 rfl (lv_at hl 0 rfl) ?_
  obtain ⟨h1, h2⟩ := h
  refine lv_if_gt (tgt := 20) C.x C.b dJ2_grow_2_7 (by decide) (fun c => ?_) (fun c => ?_)
  · have h := h1 c; clear h1 h2
    exact h H locs ls hR hS (lv_sub hl [1, 2, 0] rfl)
  · have h := h2 c; clear h1 h2
    refine lv_aload_n C.x C.b dJ2_grow_2_10 rfl (lv_at hl 1 rfl) ?_
    obtain ⟨k_7, fs_6, a_8, q0, q1, q2, h⟩ := h
    refine z_get C hR q1 q0 (ci := 0) rfl in_J2 1 (by decide) q132 (fun _ h => h) q2 dJ2_grow_2_11 ?_
    refine z_gets2 C hS q130 dJ2_grow_2_14 ?_
    obtain ⟨h1, h2⟩ := h
    refine lv_acmp_eq (rx := (some a_8)) (ry := (some (ze2 X))) (tgt := 45) C.x C.b dJ2_grow_2_17 (by decide) (fun c => ?_) (fun c => ?_)
    · have h := h1 (Option.some.inj c); clear h1 h2
      refine lv_aload_n C.x C.b dJ2_grow_2_45 rfl (lv_at hl 1 rfl) ?_
      refine lv_bipush (v := 10) C.x C.b dJ2_grow_2_46 (by decide) ?_
      refine lv_iload_n C.x C.b dJ2_grow_2_48 rfl (lv_at hl 2 rfl) ?_
      refine z_callS C hR hS hl (n := 2) (y := yJ4_max) (bytes := cJ4_max) (maxL := 2) (rt := (some .int)) (As := [.int 10, .int x1]) (rest := [.ref a0]) (lw_S q241 q196 q79 q197) hdS_J4_max (by decide) rfl rfl (Nat.le_of_ble_eq_true rfl) dJ2_grow_2_49 h (fun r g_9 hk_ => ?_) (fun x g1 h => z_out C hQ h)
      clear h; obtain ⟨v_10, rfl, h⟩ := hk_
      show GW X E 4 g_9 52 [(2, .int v_5), (0, .ref a0), (1, .int x1)] [.int v_10, .ref a0]
      intro H locs ls hR hS hl
      obtain ⟨t_13, q0, q1, q2, q3, h⟩ := h
      refine z_newQ C hR hS t_13 q0 q242 q1 q2 q3 dJ2_grow_2_52 (fun a_11 hf H hR hS => ?_)
      have h := h a_11 hf _ rfl
      generalize (zSz (zSq g_9 t_13 a_11 v_10.toNatClampNeg (fun _ => none)) (zGz g_9 + 1 + v_10.toNatClampNeg)) = g_12 at h hR
      refine lv_dup_x1 C.x C.b dJ2_grow_2_55 rfl rfl ?_
      obtain ⟨k_16, fs_14, q0, q1, q2, h⟩ := h
      refine z_put C hR hS q1 q0 (ci := 0) rfl in_J2 tyJ2 tyJ2_ok nmJ2 1 (by decide) q132 (fun _ h => h) rfl ⟨rfl, rfl⟩ q2 dJ2_grow_2_56 (fun H locs hR hS => ?_)
      have h := h _ rfl
      generalize zSo g_12 k_16 a0 (fs_14.set 1 (.ref a_11)) = g_15 at h hR
      exact z_aret C hQ (Or.inr ⟨_, rfl⟩) (Or.inr ⟨_, rfl⟩) dJ2_grow_2_59 h H locs ls hR hS hl
    · have h := h2 (fun z => c (congrArg some z)); clear h1 h2
      exact h H locs ls hR hS (lv_sub hl [1, 2, 0] rfl)
theorem hdV_J2_grow_2 : yJ2_grow_2.cls = RJ2 ∧ yJ2_grow_2.cls ≠ "java/lang/invoke/MethodHandle" ∧ yJ2_grow_2.cls ≠ "java/lang/invoke/VarHandle" ∧ (parseMethodDescriptor yJ2_grow_2.desc).map (fun d => d.parameters.length) = some 1 := by decide +kernel
abbrev wJ2_grow : List Cond := ws_ yJ2_grow cJ2_grow 1 (some (.array (.object "java/lang/Object")))
set_option maxHeartbeats 4000000 in
theorem mJ2_grow {X : zX} {d : Nat} {g : zG} {K : Option Value → zG → Prop} {KX : String → zG → Prop} (hok : zOk X) (a0 : Nat) (h : ∃ (k_2 : Nat) (fs_1 : List Value) (v_3 : Int32), zkc k_2 = 0 ∧ zGo g k_2 a0 = some fs_1 ∧ fs_1[2]? = some (.int v_3) ∧ zIs g 0 a0 ∧ zCal X d yJ2_grow_2 wJ2_grow_2 [.ref a0, .int (v_3 + 1)] g (fun r g_4 => ∃ a_6 : Nat, r = some (.ref a_6) ∧ K (some (.ref a_6)) g_4) KX) : zCal X (d + 1) yJ2_grow wJ2_grow [.ref a0] g K KX := by
  refine z_enter hok pn_J2 (Nat.le_of_ble_eq_true rfl) (fun E C hQ => ?_)
  have C : zC X (d + 1) E RJ2 cJ2_grow 1 (some (.array (.object "java/lang/Object"))) "grow" := C
  show GW X E 1 g 0 [(0, .ref a0)] []
  intro H locs ls hR hS hl
  refine lv_aload_n C.x C.b dJ2_grow_0 rfl (lv_at hl 0 rfl) ?_
  refine lv_aload_n C.x C.b dJ2_grow_1 rfl (lv_at hl 0 rfl) ?_
  obtain ⟨k_2, fs_1, v_3, q0, q1, q2, h⟩ := h
  refine z_get C hR q1 q0 (ci := 0) rfl in_J2 2 (by decide) q135 (fun _ h => h) q2 dJ2_grow_2 ?_
  refine lv_iconst (v := 1) C.x C.b dJ2_grow_5 (by decide) ?_
  refine lv_iadd C.x C.b dJ2_grow_6 ?_
  refine z_callV C hR hS hl (n := 1) (C1 := RJ2) (T := TJ2) (N := 3) (ci := 0) (y := yJ2_grow_2) (bytes := cJ2_grow_2) (maxL := 4) (rt := (some (.array (.object "java/lang/Object")))) (As := [.int (v_3 + 1)]) (rest := []) h.1 rfl (lw_V q188 q190 qs2 q76 q191) hdV_J2_grow_2 (by decide) rfl rfl (Nat.le_of_ble_eq_true rfl) dJ2_grow_7 h.2 (fun r g_4 hk_ => ?_) (fun x g1 h => z_out C hQ h)
  clear h; obtain ⟨a_6, rfl, h⟩ := hk_
  show GW X E 1 g_4 10 [(0, .ref a0)] [.ref a_6]
  intro H locs ls hR hS hl
  exact z_aret C hQ (Or.inr ⟨_, rfl⟩) (Or.inr ⟨_, rfl⟩) dJ2_grow_10 h H locs ls hR hS hl
theorem hdV_J2_grow : yJ2_grow.cls = RJ2 ∧ yJ2_grow.cls ≠ "java/lang/invoke/MethodHandle" ∧ yJ2_grow.cls ≠ "java/lang/invoke/VarHandle" ∧ (parseMethodDescriptor yJ2_grow.desc).map (fun d => d.parameters.length) = some 0 := by decide +kernel
abbrev wJ2_add_2 : List Cond := ws_ yJ2_add_2 cJ2_add_2 4 none
set_option maxHeartbeats 4000000 in
theorem mJ2_add_2 {X : zX} {d : Nat} {g : zG} {K : Option Value → zG → Prop} {KX : String → zG → Prop} (hok : zOk X) (a0 : Nat) (a1 : Nat) (a2 : Nat) (x3 : Int32) (h : ∃ n_1 : Nat, zlen X g a2 n_1 ∧ ∀ v_2 : Int32, v_2 = Int32.ofNat n_1 → (¬ x3 = v_2 → ∃ (t_3 n_4 : Nat) (f_5 : Nat → Option Nat), zGq g t_3 a2 = some (n_4, f_5) ∧ ¬ t_3 < 64 ∧ vp_in x3 n_4 ∧ zob g a1 ∧ ∀ g_6 : zG, g_6 = zSq g t_3 a2 n_4 (va_up f_5 x3.toNatClampNeg (some a1)) → ∃ (k_9 : Nat) (fs_7 : List Value), zkc k_9 = 0 ∧ zGo g_6 k_9 a0 = some fs_7 ∧ 2 < fs_7.length ∧ ∀ g_8 : zG, g_8 = zSo g_6 k_9 a0 (fs_7.set 2 (.int (x3 + 1))) → K none g_8) ∧ (x3 = v_2 → zIs g 0 a0 ∧ zCal X d yJ2_grow wJ2_grow [.ref a0] g (fun r g_10 => ∃ a_12 : Nat, r = some (.ref a_12) ∧ ∃ (t_13 n_14 : Nat) (f_15 : Nat → Option Nat), zGq g_10 t_13 a_12 = some (n_14, f_15) ∧ ¬ t_13 < 64 ∧ vp_in x3 n_14 ∧ zob g_10 a1 ∧ ∀ g_16 : zG, g_16 = zSq g_10 t_13 a_12 n_14 (va_up f_15 x3.toNatClampNeg (some a1)) → ∃ (k_19 : Nat) (fs_17 : List Value), zkc k_19 = 0 ∧ zGo g_16 k_19 a0 = some fs_17 ∧ 2 < fs_17.length ∧ ∀ g_18 : zG, g_18 = zSo g_16 k_19 a0 (fs_17.set 2 (.int (x3 + 1))) → K none g_18) KX)) : zCal X (d + 1) yJ2_add_2 wJ2_add_2 [.ref a0, .ref a1, .ref a2, .int x3] g K KX := by
  refine z_enter hok pn_J2 (Nat.le_of_ble_eq_true rfl) (fun E C hQ => ?_)
  have C : zC X (d + 1) E RJ2 cJ2_add_2 4 none "add" := C
  show GW X E 4 g 0 [(0, .ref a0), (1, .ref a1), (2, .ref a2), (3, .int x3)] []
  intro H locs ls hR hS hl
  refine lv_iload_n C.x C.b dJ2_add_2_0 rfl (lv_at hl 3 rfl) ?_
  refine lv_aload_n C.x C.b dJ2_add_2_1 rfl (lv_at hl 2 rfl) ?_
  obtain ⟨n_1, q1, h⟩ := h
  refine z_alen C hR hS q1 dJ2_add_2_2 ?_
  have h := h _ rfl
  generalize Int32.ofNat n_1 = v_2 at h ⊢
  obtain ⟨h1, h2⟩ := h
  refine lv_icmp_ne (tgt := 11) C.x C.b dJ2_add_2_3 (by decide) (fun c => ?_) (fun c => ?_)
  · have h := h1 c; clear h1 h2
    refine lv_aload_n C.x C.b dJ2_add_2_11 rfl (lv_at hl 2 rfl) ?_
    refine lv_iload_n C.x C.b dJ2_add_2_12 rfl (lv_at hl 3 rfl) ?_
    refine lv_aload_n C.x C.b dJ2_add_2_13 rfl (lv_at hl 1 rfl) ?_
    obtain ⟨t_3, n_4, f_5, q1, q2, q3, q4, h⟩ := h
    refine z_aast C hR hS q1 q2 q3 q4 dJ2_add_2_14 (fun H locs hR hS => ?_)
    have h := h _ rfl
    generalize zSq g t_3 a2 n_4 (va_up f_5 x3.toNatClampNeg (some a1)) = g_6 at h hR
    refine lv_aload_n C.x C.b dJ2_add_2_15 rfl (lv_at hl 0 rfl) ?_
    refine lv_iload_n C.x C.b dJ2_add_2_16 rfl (lv_at hl 3 rfl) ?_
    refine lv_iconst (v := 1) C.x C.b dJ2_add_2_17 (by decide) ?_
    refine lv_iadd C.x C.b dJ2_add_2_18 ?_
    obtain ⟨k_9, fs_7, q0, q1, q2, h⟩ := h
    refine z_put C hR hS q1 q0 (ci := 0) rfl in_J2 tyJ2 tyJ2_ok nmJ2 2 (by decide) q135 (fun _ h => h) rfl ⟨rfl, rfl⟩ q2 dJ2_add_2_19 (fun H locs hR hS => ?_)
    have h := h _ rfl
    generalize zSo g_6 k_9 a0 (fs_7.set 2 (.int (x3 + 1))) = g_8 at h hR
    exact z_vret C hQ dJ2_add_2_22 h H locs ls hR hS hl
  · have h := h2 c; clear h1 h2
    refine lv_aload_n C.x C.b dJ2_add_2_6 rfl (lv_at hl 0 rfl) ?_
    refine z_callV C hR hS hl (n := 0) (C1 := RJ2) (T := TJ2) (N := 3) (ci := 0) (y := yJ2_grow) (bytes := cJ2_grow) (maxL := 1) (rt := (some (.array (.object "java/lang/Object")))) (As := []) (rest := []) h.1 rfl (lw_V q184 q186 qs1 q76 q187) hdV_J2_grow (by decide) rfl rfl (Nat.le_of_ble_eq_true rfl) dJ2_add_2_7 h.2 (fun r g_10 hk_ => ?_) (fun x g1 h => z_out C hQ h)
    clear h; obtain ⟨a_12, rfl, h⟩ := hk_
    show GW X E 4 g_10 10 [(0, .ref a0), (1, .ref a1), (2, .ref a2), (3, .int x3)] [.ref a_12]
    intro H locs ls hR hS hl
    refine lv_astore_n (lv' := [(2, .ref a_12), (0, .ref a0), (1, .ref a1), (3, .int x3)]) C.x C.b dJ2_add_2_10 rfl hl (by decide) rfl (fun ls hl => ?_)
    refine lv_aload_n C.x C.b dJ2_add_2_11 rfl (lv_at hl 0 rfl) ?_
    refine lv_iload_n C.x C.b dJ2_add_2_12 rfl (lv_at hl 3 rfl) ?_
    refine lv_aload_n C.x C.b dJ2_add_2_13 rfl (lv_at hl 2 rfl) ?_
    obtain ⟨t_13, n_14, f_15, q1, q2, q3, q4, h⟩ := h
    refine z_aast C hR hS q1 q2 q3 q4 dJ2_add_2_14 (fun H locs hR hS => ?_)
    have h := h _ rfl
    generalize zSq g_10 t_13 a_12 n_14 (va_up f_15 x3.toNatClampNeg (some a1)) = g_16 at h hR
    refine lv_aload_n C.x C.b dJ2_add_2_15 rfl (lv_at hl 1 rfl) ?_
    refine lv_iload_n C.x C.b dJ2_add_2_16 rfl (lv_at hl 3 rfl) ?_
    refine lv_iconst (v := 1) C.x C.b dJ2_add_2_17 (by decide) ?_
    refine lv_iadd C.x C.b dJ2_add_2_18 ?_
    obtain ⟨k_19, fs_17, q0, q1, q2, h⟩ := h
    refine z_put C hR hS q1 q0 (ci := 0) rfl in_J2 tyJ2 tyJ2_ok nmJ2 2 (by decide) q135 (fun _ h => h) rfl ⟨rfl, rfl⟩ q2 dJ2_add_2_19 (fun H locs hR hS => ?_)
    have h := h _ rfl
    generalize zSo g_16 k_19 a0 (fs_17.set 2 (.int (x3 + 1))) = g_18 at h hR
    exact z_vret C hQ dJ2_add_2_22 h H locs ls hR hS hl
theorem hdV_J2_add_2 : yJ2_add_2.cls = RJ2 ∧ yJ2_add_2.cls ≠ "java/lang/invoke/MethodHandle" ∧ yJ2_add_2.cls ≠ "java/lang/invoke/VarHandle" ∧ (parseMethodDescriptor yJ2_add_2.desc).map (fun d => d.parameters.length) = some 3 := by decide +kernel
abbrev wJ2_add : List Cond := ws_ yJ2_add cJ2_add 2 (some .boolean)
set_option maxHeartbeats 4000000 in
theorem mJ2_add {X : zX} {d : Nat} {g : zG} {K : Option Value → zG → Prop} {KX : String → zG → Prop} (hok : zOk X) (a0 : Nat) (a1 : Nat) (h : ∃ (k_2 : Nat) (fs_1 : List Value) (v_3 : Int32), zkc k_2 = 0 ∧ zGo g k_2 a0 = some fs_1 ∧ fs_1[0]? = some (.int v_3) ∧ ∃ (k_6 : Nat) (fs_4 : List Value), zkc k_6 = 0 ∧ zGo g k_6 a0 = some fs_4 ∧ 0 < fs_4.length ∧ ∀ g_5 : zG, g_5 = zSo g k_6 a0 (fs_4.set 0 (.int (v_3 + 1))) → ∃ (k_8 : Nat) (fs_7 : List Value) (a_9 : Nat), zkc k_8 = 0 ∧ zGo g_5 k_8 a0 = some fs_7 ∧ fs_7[1]? = some (.ref a_9) ∧ ∃ (k_11 : Nat) (fs_10 : List Value) (v_12 : Int32), zkc k_11 = 0 ∧ zGo g_5 k_11 a0 = some fs_10 ∧ fs_10[2]? = some (.int v_12) ∧ zIs g_5 0 a0 ∧ zCal X d yJ2_add_2 wJ2_add_2 [.ref a0, .ref a1, .ref a_9, .int v_12] g_5 (fun r g_13 => r = none ∧ K (some (.int 1)) g_13) KX) : zCal X (d + 1) yJ2_add wJ2_add [.ref a0, .ref a1] g K KX := by
  refine z_enter hok pn_J2 (Nat.le_of_ble_eq_true rfl) (fun E C hQ => ?_)
  have C : zC X (d + 1) E RJ2 cJ2_add 2 (some .boolean) "add" := C
  show GW X E 2 g 0 [(0, .ref a0), (1, .ref a1)] []
  intro H locs ls hR hS hl
  refine lv_aload_n C.x C.b dJ2_add_0 rfl (lv_at hl 0 rfl) ?_
  refine lv_dup C.x C.b dJ2_add_1 rfl ?_
  obtain ⟨k_2, fs_1, v_3, q0, q1, q2, h⟩ := h
  refine z_get C hR q1 q0 (ci := 0) rfl in_J2 0 (by decide) q139 (u_same (C.ts _ q138)) q2 dJ2_add_2 ?_
  refine lv_iconst (v := 1) C.x C.b dJ2_add_5 (by decide) ?_
  refine lv_iadd C.x C.b dJ2_add_6 ?_
  obtain ⟨k_6, fs_4, q0, q1, q2, h⟩ := h
  refine z_put C hR hS q1 q0 (ci := 0) rfl in_J2 tyJ2 tyJ2_ok nmJ2 0 (by decide) q139 (u_same (C.ts _ q138)) rfl ⟨rfl, rfl⟩ q2 dJ2_add_7 (fun H locs hR hS => ?_)
  have h := h _ rfl
  generalize zSo g k_6 a0 (fs_4.set 0 (.int (v_3 + 1))) = g_5 at h hR
  refine lv_aload_n C.x C.b dJ2_add_10 rfl (lv_at hl 0 rfl) ?_
  refine lv_aload_n C.x C.b dJ2_add_11 rfl (lv_at hl 1 rfl) ?_
  refine lv_aload_n C.x C.b dJ2_add_12 rfl (lv_at hl 0 rfl) ?_
  obtain ⟨k_8, fs_7, a_9, q0, q1, q2, h⟩ := h
  refine z_get C hR q1 q0 (ci := 0) rfl in_J2 1 (by decide) q132 (fun _ h => h) q2 dJ2_add_13 ?_
  refine lv_aload_n C.x C.b dJ2_add_16 rfl (lv_at hl 0 rfl) ?_
  obtain ⟨k_11, fs_10, v_12, q0, q1, q2, h⟩ := h
  refine z_get C hR q1 q0 (ci := 0) rfl in_J2 2 (by decide) q135 (fun _ h => h) q2 dJ2_add_17 ?_
  refine z_callV C hR hS hl (n := 3) (C1 := RJ2) (T := TJ2) (N := 3) (ci := 0) (y := yJ2_add_2) (bytes := cJ2_add_2) (maxL := 4) (rt := none) (As := [.ref a1, .ref a_9, .int v_12]) (rest := []) h.1 rfl (lw_V q180 q182 qs0 q76 q183) hdV_J2_add_2 (by decide) rfl rfl (Nat.le_of_ble_eq_true rfl) dJ2_add_20 h.2 (fun r g_13 hk_ => ?_) (fun x g1 h => z_out C hQ h)
  clear h; obtain ⟨rfl, h⟩ := hk_
  show GW X E 2 g_13 23 [(0, .ref a0), (1, .ref a1)] []
  intro H locs ls hR hS hl
  refine lv_iconst (v := 1) C.x C.b dJ2_add_23 (by decide) ?_
  exact z_zret C hQ rfl dJ2_add_24 h H locs ls hR hS hl
abbrev wJ2_fastRemove : List Cond := ws_ yJ2_fastRemove cJ2_fastRemove 4 none
set_option maxHeartbeats 4000000 in
theorem mJ2_fastRemove {X : zX} {d : Nat} {g : zG} {K : Option Value → zG → Prop} {KX : String → zG → Prop} (hok : zOk X) (a0 : Nat) (a1 : Nat) (x2 : Int32) (h : ∃ (k_2 : Nat) (fs_1 : List Value) (v_3 : Int32), zkc k_2 = 0 ∧ zGo g k_2 a0 = some fs_1 ∧ fs_1[0]? = some (.int v_3) ∧ ∃ (k_6 : Nat) (fs_4 : List Value), zkc k_6 = 0 ∧ zGo g k_6 a0 = some fs_4 ∧ 0 < fs_4.length ∧ ∀ g_5 : zG, g_5 = zSo g k_6 a0 (fs_4.set 0 (.int (v_3 + 1))) → ∃ (k_8 : Nat) (fs_7 : List Value) (v_9 : Int32), zkc k_8 = 0 ∧ zGo g_5 k_8 a0 = some fs_7 ∧ fs_7[2]? = some (.int v_9) ∧ ((v_9 - 1) ≤ x2 → ∃ (k_12 : Nat) (fs_10 : List Value), zkc k_12 = 0 ∧ zGo g_5 k_12 a0 = some fs_10 ∧ 2 < fs_10.length ∧ ∀ g_11 : zG, g_11 = zSo g_5 k_12 a0 (fs_10.set 2 (.int (v_9 - 1))) → ∃ (t_13 n_14 : Nat) (f_15 : Nat → Option Nat), zGq g_11 t_13 a1 = some (n_14, f_15) ∧ ¬ t_13 < 64 ∧ vp_in (v_9 - 1) n_14 ∧ ∀ g_16 : zG, g_16 = zSq g_11 t_13 a1 n_14 (va_up f_15 (v_9 - 1).toNatClampNeg none) → K none g_16) ∧ (¬ (v_9 - 1) ≤ x2 → ∃ (t_17 t_18 n_19 n_20 : Nat) (f_21 f_22 : Nat → Option Nat), (zGq g_5 t_17 a1 = some (n_19, f_21) ∧ ¬ t_17 < 64 ∨ n_19 = 0 ∧ (a1 = ze1 X ∨ a1 = ze2 X)) ∧ zGq g_5 t_18 a1 = some (n_20, f_22) ∧ ¬ t_18 < 64 ∧ ¬ (x2 + 1) < 0 ∧ ¬ x2 < 0 ∧ ¬ ((v_9 - 1) - x2) < 0 ∧ (x2 + 1).toNatClampNeg + ((v_9 - 1) - x2).toNatClampNeg ≤ n_19 ∧ x2.toNatClampNeg + ((v_9 - 1) - x2).toNatClampNeg ≤ n_20 ∧ (∀ i : Nat, i < ((v_9 - 1) - x2).toNatClampNeg → ∀ y : Nat, f_21 ((x2 + 1).toNatClampNeg + i) = some y → zob g_5 y) ∧ ∀ g_23 : zG, g_23 = (zSq g_5 t_18 a1 n_20 (va_cpy f_21 f_22 (x2 + 1).toNatClampNeg x2.toNatClampNeg ((v_9 - 1) - x2).toNatClampNeg)) → ∃ (k_26 : Nat) (fs_24 : List Value), zkc k_26 = 0 ∧ zGo g_23 k_26 a0 = some fs_24 ∧ 2 < fs_24.length ∧ ∀ g_25 : zG, g_25 = zSo g_23 k_26 a0 (fs_24.set 2 (.int (v_9 - 1))) → ∃ (t_27 n_28 : Nat) (f_29 : Nat → Option Nat), zGq g_25 t_27 a1 = some (n_28, f_29) ∧ ¬ t_27 < 64 ∧ vp_in (v_9 - 1) n_28 ∧ ∀ g_30 : zG, g_30 = zSq g_25 t_27 a1 n_28 (va_up f_29 (v_9 - 1).toNatClampNeg none) → K none g_30)) : zCal X (d + 1) yJ2_fastRemove wJ2_fastRemove [.ref a0, .ref a1, .int x2] g K KX := by
  refine z_enter hok pn_J2 (Nat.le_of_ble_eq_true rfl) (fun E C hQ => ?_)
  have C : zC X (d + 1) E RJ2 cJ2_fastRemove 4 none "fastRemove" := C
  show GW X E 4 g 0 [(0, .ref a0), (1, .ref a1), (2, .int x2)] []
  intro H locs ls hR hS hl
  refine lv_aload_n C.x C.b dJ2_fastRemove_0 rfl (lv_at hl 0 rfl) ?_
  refine lv_dup C.x C.b dJ2_fastRemove_1 rfl ?_
  obtain ⟨k_2, fs_1, v_3, q0, q1, q2, h⟩ := h
  refine z_get C hR q1 q0 (ci := 0) rfl in_J2 0 (by decide) q139 (u_same (C.ts _ q138)) q2 dJ2_fastRemove_2 ?_
  refine lv_iconst (v := 1) C.x C.b dJ2_fastRemove_5 (by decide) ?_
  refine lv_iadd C.x C.b dJ2_fastRemove_6 ?_
  obtain ⟨k_6, fs_4, q0, q1, q2, h⟩ := h
  refine z_put C hR hS q1 q0 (ci := 0) rfl in_J2 tyJ2 tyJ2_ok nmJ2 0 (by decide) q139 (u_same (C.ts _ q138)) rfl ⟨rfl, rfl⟩ q2 dJ2_fastRemove_7 (fun H locs hR hS => ?_)
  have h := h _ rfl
  generalize zSo g k_6 a0 (fs_4.set 0 (.int (v_3 + 1))) = g_5 at h hR
  refine lv_aload_n C.x C.b dJ2_fastRemove_10 rfl (lv_at hl 0 rfl) ?_
  obtain ⟨k_8, fs_7, v_9, q0, q1, q2, h⟩ := h
  refine z_get C hR q1 q0 (ci := 0) rfl in_J2 2 (by decide) q135 (fun _ h => h) q2 dJ2_fastRemove_11 ?_
  refine lv_iconst (v := 1) C.x C.b dJ2_fastRemove_14 (by decide) ?_
  refine lv_isub C.x C.b dJ2_fastRemove_15 ?_
  refine lv_dup C.x C.b dJ2_fastRemove_16 rfl ?_
  refine lv_istore_n (lv' := [(3, .int (v_9 - 1)), (0, .ref a0), (1, .ref a1), (2, .int x2)]) C.x C.b dJ2_fastRemove_17 rfl hl (by decide) rfl (fun ls hl => ?_)
  refine lv_iload_n C.x C.b dJ2_fastRemove_18 rfl (lv_at hl 3 rfl) ?_
  obtain ⟨h1, h2⟩ := h
  refine lv_icmp_le (tgt := 34) C.x C.b dJ2_fastRemove_19 (by decide) (fun c => ?_) (fun c => ?_)
  · have h := h1 c; clear h1 h2
    refine lv_aload_n C.x C.b dJ2_fastRemove_34 rfl (lv_at hl 2 rfl) ?_
    refine lv_aload_n C.x C.b dJ2_fastRemove_35 rfl (lv_at hl 1 rfl) ?_
    refine lv_iload_n C.x C.b dJ2_fastRemove_36 rfl (lv_at hl 0 rfl) ?_
    refine lv_dup_x1 C.x C.b dJ2_fastRemove_37 rfl rfl ?_
    obtain ⟨k_12, fs_10, q0, q1, q2, h⟩ := h
    refine z_put C hR hS q1 q0 (ci := 0) rfl in_J2 tyJ2 tyJ2_ok nmJ2 2 (by decide) q135 (fun _ h => h) rfl ⟨rfl, rfl⟩ q2 dJ2_fastRemove_38 (fun H locs hR hS => ?_)
    have h := h _ rfl
    generalize zSo g_5 k_12 a0 (fs_10.set 2 (.int (v_9 - 1))) = g_11 at h hR
    refine lv_null C.x C.b dJ2_fastRemove_41 ?_
    obtain ⟨t_13, n_14, f_15, q1, q2, q3, h⟩ := h
    refine z_aastN C hR hS q1 q2 q3 dJ2_fastRemove_42 (fun H locs hR hS => ?_)
    have h := h _ rfl
    generalize zSq g_11 t_13 a1 n_14 (va_up f_15 (v_9 - 1).toNatClampNeg none) = g_16 at h hR
    exact z_vret C hQ dJ2_fastRemove_43 h H locs ls hR hS hl
  · have h := h2 c; clear h1 h2
    refine lv_aload_n C.x C.b dJ2_fastRemove_22 rfl (lv_at hl 2 rfl) ?_
    refine lv_iload_n C.x C.b dJ2_fastRemove_23 rfl (lv_at hl 3 rfl) ?_
    refine lv_iconst (v := 1) C.x C.b dJ2_fastRemove_24 (by decide) ?_
    refine lv_iadd C.x C.b dJ2_fastRemove_25 ?_
    refine lv_aload_n C.x C.b dJ2_fastRemove_26 rfl (lv_at hl 2 rfl) ?_
    refine lv_iload_n C.x C.b dJ2_fastRemove_27 rfl (lv_at hl 3 rfl) ?_
    refine lv_iload_n C.x C.b dJ2_fastRemove_28 rfl (lv_at hl 0 rfl) ?_
    refine lv_iload_n C.x C.b dJ2_fastRemove_29 rfl (lv_at hl 3 rfl) ?_
    refine lv_isub C.x C.b dJ2_fastRemove_30 ?_
    obtain ⟨t_17, t_18, n_19, n_20, f_21, f_22, q1, q2, q4, q5, q6, q7, q8, q9, q10, h⟩ := h
    refine z_copy2 C hR hS hl q612 q1 q2 q4 q5 q6 q7 q8 q9 q10 (Nat.le_of_ble_eq_true rfl) dJ2_fastRemove_31 (fun H locs hR hS => ?_)
    have h := h _ rfl
    generalize (zSq g_5 t_18 a1 n_20 (va_cpy f_21 f_22 (x2 + 1).toNatClampNeg x2.toNatClampNeg ((v_9 - 1) - x2).toNatClampNeg)) = g_23 at h hR
    refine lv_aload_n C.x C.b dJ2_fastRemove_34 rfl (lv_at hl 2 rfl) ?_
    refine lv_aload_n C.x C.b dJ2_fastRemove_35 rfl (lv_at hl 1 rfl) ?_
    refine lv_iload_n C.x C.b dJ2_fastRemove_36 rfl (lv_at hl 0 rfl) ?_
    refine lv_dup_x1 C.x C.b dJ2_fastRemove_37 rfl rfl ?_
    obtain ⟨k_26, fs_24, q0, q1, q2, h⟩ := h
    refine z_put C hR hS q1 q0 (ci := 0) rfl in_J2 tyJ2 tyJ2_ok nmJ2 2 (by decide) q135 (fun _ h => h) rfl ⟨rfl, rfl⟩ q2 dJ2_fastRemove_38 (fun H locs hR hS => ?_)
    have h := h _ rfl
    generalize zSo g_23 k_26 a0 (fs_24.set 2 (.int (v_9 - 1))) = g_25 at h hR
    refine lv_null C.x C.b dJ2_fastRemove_41 ?_
    obtain ⟨t_27, n_28, f_29, q1, q2, q3, h⟩ := h
    refine z_aastN C hR hS q1 q2 q3 dJ2_fastRemove_42 (fun H locs hR hS => ?_)
    have h := h _ rfl
    generalize zSq g_25 t_27 a1 n_28 (va_up f_29 (v_9 - 1).toNatClampNeg none) = g_30 at h hR
    exact z_vret C hQ dJ2_fastRemove_43 h H locs ls hR hS hl
theorem hdV_J2_fastRemove : yJ2_fastRemove.cls = RJ2 ∧ yJ2_fastRemove.cls ≠ "java/lang/invoke/MethodHandle" ∧ yJ2_fastRemove.cls ≠ "java/lang/invoke/VarHandle" ∧ (parseMethodDescriptor yJ2_fastRemove.desc).map (fun d => d.parameters.length) = some 2 := by decide +kernel
abbrev wJ2_remove : List Cond := ws_ yJ2_remove cJ2_remove 4 (some (.object "java/lang/Object"))
set_option maxHeartbeats 4000000 in
theorem mJ2_remove {X : zX} {d : Nat} {g : zG} {K : Option Value → zG → Prop} {KX : String → zG → Prop} (hok : zOk X) (a0 : Nat) (x1 : Int32) (h : ∃ (k_2 : Nat) (fs_1 : List Value) (v_3 : Int32), zkc k_2 = 0 ∧ zGo g k_2 a0 = some fs_1 ∧ fs_1[2]? = some (.int v_3) ∧ zCal X d yJ14_checkIndex wJ14_checkIndex [.int x1, .int v_3] g (fun r g_4 => ∃ v_5 : Int32, r = some (.int v_5) ∧ ∃ (k_7 : Nat) (fs_6 : List Value) (a_8 : Nat), zkc k_7 = 0 ∧ zGo g_4 k_7 a0 = some fs_6 ∧ fs_6[1]? = some (.ref a_8) ∧ ∃ (t_9 n_10 : Nat) (f_11 : Nat → Option Nat), zGq g_4 t_9 a_8 = some (n_10, f_11) ∧ vp_in x1 n_10 ∧ ∀ r_12 : Option Nat, r_12 = f_11 x1.toNatClampNeg → zIs g_4 0 a0 ∧ zCal X d yJ2_fastRemove wJ2_fastRemove [.ref a0, .ref a_8, .int x1] g_4 (fun r g_13 => r = none ∧ K (some (va_rf r_12)) g_13) KX) KX) : zCal X (d + 1) yJ2_remove wJ2_remove [.ref a0, .int x1] g K KX := by
  refine z_enter hok pn_J2 (Nat.le_of_ble_eq_true rfl) (fun E C hQ => ?_)
  have C : zC X (d + 1) E RJ2 cJ2_remove 4 (some (.object "java/lang/Object")) "remove" := C
  show GW X E 4 g 0 [(0, .ref a0), (1, .int x1)] []
  intro H locs ls hR hS hl
  refine lv_iload_n C.x C.b dJ2_remove_0 rfl (lv_at hl 1 rfl) ?_
  refine lv_aload_n C.x C.b dJ2_remove_1 rfl (lv_at hl 0 rfl) ?_
  obtain ⟨k_2, fs_1, v_3, q0, q1, q2, h⟩ := h
  refine z_get C hR q1 q0 (ci := 0) rfl in_J2 2 (by decide) q135 (fun _ h => h) q2 dJ2_remove_2 ?_
  refine z_callS C hR hS hl (n := 2) (y := yJ14_checkIndex) (bytes := cJ14_checkIndex) (maxL := 2) (rt := (some .int)) (As := [.int x1, .int v_3]) (rest := []) (lw_S q386 q387 q92 q388) hdS_J14_checkIndex (by decide) rfl rfl (Nat.le_of_ble_eq_true rfl) dJ2_remove_5 h (fun r g_4 hk_ => ?_) (fun x g1 h => z_out C hQ h)
  clear h; obtain ⟨v_5, rfl, h⟩ := hk_
  show GW X E 4 g_4 8 [(0, .ref a0), (1, .int x1)] [.int v_5]
  intro H locs ls hR hS hl
  refine lv_pop C.x C.b dJ2_remove_8 rfl ?_
  refine lv_aload_n C.x C.b dJ2_remove_9 rfl (lv_at hl 0 rfl) ?_
  obtain ⟨k_7, fs_6, a_8, q0, q1, q2, h⟩ := h
  refine z_get C hR q1 q0 (ci := 0) rfl in_J2 1 (by decide) q132 (fun _ h => h) q2 dJ2_remove_10 ?_
  refine lv_astore_n (lv' := [(2, .ref a_8), (0, .ref a0), (1, .int x1)]) C.x C.b dJ2_remove_13 rfl hl (by decide) rfl (fun ls hl => ?_)
  refine lv_aload_n C.x C.b dJ2_remove_14 rfl (lv_at hl 0 rfl) ?_
  refine lv_iload_n C.x C.b dJ2_remove_15 rfl (lv_at hl 2 rfl) ?_
  obtain ⟨t_9, n_10, f_11, q1, q2, h⟩ := h
  refine z_aald C hR q1 q2 dJ2_remove_16 ?_
  have h := h _ rfl
  generalize f_11 x1.toNatClampNeg = r_12 at h ⊢
  refine z_astore_n (lv' := [(3, va_rf r_12), (2, .ref a_8), (0, .ref a0), (1, .int x1)]) C.x C.b dJ2_remove_17 rfl hl (by decide) rfl (fun ls hl => ?_)
  refine lv_aload_n C.x C.b dJ2_remove_18 rfl (lv_at hl 2 rfl) ?_
  refine lv_aload_n C.x C.b dJ2_remove_19 rfl (lv_at hl 1 rfl) ?_
  refine lv_iload_n C.x C.b dJ2_remove_20 rfl (lv_at hl 3 rfl) ?_
  refine z_callV C hR hS hl (n := 2) (C1 := RJ2) (T := TJ2) (N := 3) (ci := 0) (y := yJ2_fastRemove) (bytes := cJ2_fastRemove) (maxL := 4) (rt := none) (As := [.ref a_8, .int x1]) (rest := []) h.1 rfl (lw_V q608 q610 qs11 q76 q611) hdV_J2_fastRemove (by decide) rfl rfl (Nat.le_of_ble_eq_true rfl) dJ2_remove_21 h.2 (fun r g_13 hk_ => ?_) (fun x g1 h => z_out C hQ h)
  clear h; obtain ⟨rfl, h⟩ := hk_
  show GW X E 4 g_13 24 [(3, va_rf r_12), (2, .ref a_8), (0, .ref a0), (1, .int x1)] []
  intro H locs ls hR hS hl
  refine z_aload_n C.x C.b dJ2_remove_24 rfl (lv_at hl 0 rfl) ?_
  exact z_aret C hQ (Or.inl ⟨_, rfl⟩) (zrf_rf _) dJ2_remove_25 h H locs ls hR hS hl
abbrev wJ2_rangeCheckForAdd : List Cond := ws_ yJ2_rangeCheckForAdd cJ2_rangeCheckForAdd 2 none
set_option maxHeartbeats 4000000 in
theorem mJ2_rangeCheckForAdd {X : zX} {d : Nat} {g : zG} {K : Option Value → zG → Prop} {KX : String → zG → Prop} (hok : zOk X) (a0 : Nat) (x1 : Int32) (h : ∃ (k_2 : Nat) (fs_1 : List Value) (v_3 : Int32), zkc k_2 = 0 ∧ zGo g k_2 a0 = some fs_1 ∧ fs_1[2]? = some (.int v_3) ∧ (v_3 < x1 → False) ∧ (¬ v_3 < x1 → (0 ≤ x1 → K none g) ∧ (¬ 0 ≤ x1 → False))) : zCal X d yJ2_rangeCheckForAdd wJ2_rangeCheckForAdd [.ref a0, .int x1] g K KX := by
  refine z_enter hok pn_J2 (Nat.le_of_ble_eq_true rfl) (fun E C hQ => ?_)
  have C : zC X d E RJ2 cJ2_rangeCheckForAdd 2 none "rangeCheckForAdd" := C
  show GW X E 2 g 0 [(0, .ref a0), (1, .int x1)] []
  intro H locs ls hR hS hl
  refine lv_iload_n C.x C.b dJ2_rangeCheckForAdd_0 rfl (lv_at hl 1 rfl) ?_
  refine lv_aload_n C.x C.b dJ2_rangeCheckForAdd_1 rfl (lv_at hl 0 rfl) ?_
  obtain ⟨k_2, fs_1, v_3, q0, q1, q2, h⟩ := h
  refine z_get C hR q1 q0 (ci := 0) rfl in_J2 2 (by decide) q135 (fun _ h => h) q2 dJ2_rangeCheckForAdd_2 ?_
  obtain ⟨h1, h2⟩ := h
  refine lv_icmp_gt (tgt := 12) C.x C.b dJ2_rangeCheckForAdd_5 (by decide) (fun c => ?_) (fun c => ?_)
  · have h := h1 c; clear h1 h2
    exact h.elim
  · have h := h2 c; clear h1 h2
    refine lv_iload_n C.x C.b dJ2_rangeCheckForAdd_8 rfl (lv_at hl 1 rfl) ?_
    obtain ⟨h1, h2⟩ := h
    refine lv_if_ge (tgt := 25) C.x C.b dJ2_rangeCheckForAdd_9 (by decide) (fun c => ?_) (fun c => ?_)
    · have h := h1 c; clear h1 h2
      exact z_vret C hQ dJ2_rangeCheckForAdd_25 h H locs ls hR hS hl
    · have h := h2 c; clear h1 h2
      exact h.elim
theorem hdV_J2_rangeCheckForAdd : yJ2_rangeCheckForAdd.cls = RJ2 ∧ yJ2_rangeCheckForAdd.cls ≠ "java/lang/invoke/MethodHandle" ∧ yJ2_rangeCheckForAdd.cls ≠ "java/lang/invoke/VarHandle" ∧ (parseMethodDescriptor yJ2_rangeCheckForAdd.desc).map (fun d => d.parameters.length) = some 1 := by decide +kernel
abbrev wJ2_add_3 : List Cond := ws_ yJ2_add_3 cJ2_add_3 5 none
set_option maxHeartbeats 4000000 in
theorem bJ2_add_3_38 {X : zX} {d : Nat} {E : zM} {K : Option Value → zG → Prop} {KX : String → zG → Prop} (C : zC X (d + 1) E RJ2 cJ2_add_3 5 none "add") (hQ : zQ X E K KX) (g : zG) (a0 : Nat) (x1 : Int32) (a2 : Nat) (x3 : Int32) (a4 : Nat) (h : ∃ (t_1 t_2 n_3 n_4 : Nat) (f_5 f_6 : Nat → Option Nat), (zGq g t_1 a4 = some (n_3, f_5) ∧ ¬ t_1 < 64 ∨ n_3 = 0 ∧ (a4 = ze1 X ∨ a4 = ze2 X)) ∧ zGq g t_2 a4 = some (n_4, f_6) ∧ ¬ t_2 < 64 ∧ ¬ x1 < 0 ∧ ¬ (x1 + 1) < 0 ∧ ¬ (x3 - x1) < 0 ∧ x1.toNatClampNeg + (x3 - x1).toNatClampNeg ≤ n_3 ∧ (x1 + 1).toNatClampNeg + (x3 - x1).toNatClampNeg ≤ n_4 ∧ (∀ i : Nat, i < (x3 - x1).toNatClampNeg → ∀ y : Nat, f_5 (x1.toNatClampNeg + i) = some y → zob g y) ∧ ∀ g_7 : zG, g_7 = (zSq g t_2 a4 n_4 (va_cpy f_5 f_6 x1.toNatClampNeg (x1 + 1).toNatClampNeg (x3 - x1).toNatClampNeg)) → ∃ (t_8 n_9 : Nat) (f_10 : Nat → Option Nat), zGq g_7 t_8 a4 = some (n_9, f_10) ∧ ¬ t_8 < 64 ∧ vp_in x1 n_9 ∧ zob g_7 a2 ∧ ∀ g_11 : zG, g_11 = zSq g_7 t_8 a4 n_9 (va_up f_10 x1.toNatClampNeg (some a2)) → ∃ (k_14 : Nat) (fs_12 : List Value), zkc k_14 = 0 ∧ zGo g_11 k_14 a0 = some fs_12 ∧ 2 < fs_12.length ∧ ∀ g_13 : zG, g_13 = zSo g_11 k_14 a0 (fs_12.set 2 (.int (x3 + 1))) → K none g_13) : GW X E 5 g 38 [(0, .ref a0), (1, .int x1), (2, .ref a2), (3, .int x3), (4, .ref a4)] [] := by
  intro H locs ls hR hS hl
  refine lv_aload C.x C.b dJ2_add_3_38 (lv_at hl 4 rfl) ?_
  refine lv_iload_n C.x C.b dJ2_add_3_40 rfl (lv_at hl 1 rfl) ?_
  refine lv_aload C.x C.b dJ2_add_3_41 (lv_at hl 4 rfl) ?_
  refine lv_iload_n C.x C.b dJ2_add_3_43 rfl (lv_at hl 1 rfl) ?_
  refine lv_iconst (v := 1) C.x C.b dJ2_add_3_44 (by decide) ?_
  refine lv_iadd C.x C.b dJ2_add_3_45 ?_
  refine lv_iload_n C.x C.b dJ2_add_3_46 rfl (lv_at hl 3 rfl) ?_
  refine lv_iload_n C.x C.b dJ2_add_3_47 rfl (lv_at hl 1 rfl) ?_
  refine lv_isub C.x C.b dJ2_add_3_48 ?_
  obtain ⟨t_1, t_2, n_3, n_4, f_5, f_6, q1, q2, q4, q5, q6, q7, q8, q9, q10, h⟩ := h
  refine z_copy2 C hR hS hl q612 q1 q2 q4 q5 q6 q7 q8 q9 q10 (Nat.le_of_ble_eq_true rfl) dJ2_add_3_49 (fun H locs hR hS => ?_)
  have h := h _ rfl
  generalize (zSq g t_2 a4 n_4 (va_cpy f_5 f_6 x1.toNatClampNeg (x1 + 1).toNatClampNeg (x3 - x1).toNatClampNeg)) = g_7 at h hR
  refine lv_aload C.x C.b dJ2_add_3_52 (lv_at hl 4 rfl) ?_
  refine lv_iload_n C.x C.b dJ2_add_3_54 rfl (lv_at hl 1 rfl) ?_
  refine lv_aload_n C.x C.b dJ2_add_3_55 rfl (lv_at hl 2 rfl) ?_
  obtain ⟨t_8, n_9, f_10, q1, q2, q3, q4, h⟩ := h
  refine z_aast C hR hS q1 q2 q3 q4 dJ2_add_3_56 (fun H locs hR hS => ?_)
  have h := h _ rfl
  generalize zSq g_7 t_8 a4 n_9 (va_up f_10 x1.toNatClampNeg (some a2)) = g_11 at h hR
  refine lv_aload_n C.x C.b dJ2_add_3_57 rfl (lv_at hl 0 rfl) ?_
  refine lv_iload_n C.x C.b dJ2_add_3_58 rfl (lv_at hl 3 rfl) ?_
  refine lv_iconst (v := 1) C.x C.b dJ2_add_3_59 (by decide) ?_
  refine lv_iadd C.x C.b dJ2_add_3_60 ?_
  obtain ⟨k_14, fs_12, q0, q1, q2, h⟩ := h
  refine z_put C hR hS q1 q0 (ci := 0) rfl in_J2 tyJ2 tyJ2_ok nmJ2 2 (by decide) q135 (fun _ h => h) rfl ⟨rfl, rfl⟩ q2 dJ2_add_3_61 (fun H locs hR hS => ?_)
  have h := h _ rfl
  generalize zSo g_11 k_14 a0 (fs_12.set 2 (.int (x3 + 1))) = g_13 at h hR
  exact z_vret C hQ dJ2_add_3_64 h H locs ls hR hS hl
set_option maxHeartbeats 4000000 in
theorem mJ2_add_3 {X : zX} {d : Nat} {g : zG} {K : Option Value → zG → Prop} {KX : String → zG → Prop} (hok : zOk X) (a0 : Nat) (x1 : Int32) (a2 : Nat) (h : ∀ E : zM, zC X (d + 1) E RJ2 cJ2_add_3 5 none "add" → zQ X E K KX → zIs g 0 a0 ∧ zCal X d yJ2_rangeCheckForAdd wJ2_rangeCheckForAdd [.ref a0, .int x1] g (fun r g_1 => r = none ∧ ∃ (k_3 : Nat) (fs_2 : List Value) (v_4 : Int32), zkc k_3 = 0 ∧ zGo g_1 k_3 a0 = some fs_2 ∧ fs_2[0]? = some (.int v_4) ∧ ∃ (k_7 : Nat) (fs_5 : List Value), zkc k_7 = 0 ∧ zGo g_1 k_7 a0 = some fs_5 ∧ 0 < fs_5.length ∧ ∀ g_6 : zG, g_6 = zSo g_1 k_7 a0 (fs_5.set 0 (.int (v_4 + 1))) → ∃ (k_9 : Nat) (fs_8 : List Value) (v_10 : Int32), zkc k_9 = 0 ∧ zGo g_6 k_9 a0 = some fs_8 ∧ fs_8[2]? = some (.int v_10) ∧ ∃ (k_12 : Nat) (fs_11 : List Value) (a_13 : Nat), zkc k_12 = 0 ∧ zGo g_6 k_12 a0 = some fs_11 ∧ fs_11[1]? = some (.ref a_13) ∧ ∃ n_14 : Nat, zlen X g_6 a_13 n_14 ∧ ∀ v_15 : Int32, v_15 = Int32.ofNat n_14 → (¬ v_10 = v_15 → GW X E 5 g_6 38 [(0, .ref a0), (1, .int x1), (2, .ref a2), (3, .int v_10), (4, .ref a_13)] []) ∧ (v_10 = v_15 → zIs g_6 0 a0 ∧ zCal X d yJ2_grow wJ2_grow [.ref a0] g_6 (fun r g_16 => ∃ a_18 : Nat, r = some (.ref a_18) ∧ GW X E 5 g_16 38 [(0, .ref a0), (1, .int x1), (2, .ref a2), (3, .int v_10), (4, .ref a_18)] []) KX)) KX) : zCal X (d + 1) yJ2_add_3 wJ2_add_3 [.ref a0, .int x1, .ref a2] g K KX := by
  refine z_enter hok pn_J2 (Nat.le_of_ble_eq_true rfl) (fun E C hQ => ?_)
  have C : zC X (d + 1) E RJ2 cJ2_add_3 5 none "add" := C
  have h := h E C hQ
  show GW X E 5 g 0 [(0, .ref a0), (1, .int x1), (2, .ref a2)] []
  intro H locs ls hR hS hl
  refine lv_aload_n C.x C.b dJ2_add_3_0 rfl (lv_at hl 0 rfl) ?_
  refine lv_iload_n C.x C.b dJ2_add_3_1 rfl (lv_at hl 1 rfl) ?_
  refine z_callV C hR hS hl (n := 1) (C1 := RJ2) (T := TJ2) (N := 3) (ci := 0) (y := yJ2_rangeCheckForAdd) (bytes := cJ2_rangeCheckForAdd) (maxL := 2) (rt := none) (As := [.int x1]) (rest := []) h.1 rfl (lw_V q838 q840 qs15 q76 q841) hdV_J2_rangeCheckForAdd (by decide) rfl rfl (Nat.le_of_ble_eq_true rfl) dJ2_add_3_2 h.2 (fun r g_1 hk_ => ?_) (fun x g1 h => z_out C hQ h)
  clear h; obtain ⟨rfl, h⟩ := hk_
  show GW X E 5 g_1 5 [(0, .ref a0), (1, .int x1), (2, .ref a2)] []
  intro H locs ls hR hS hl
  refine lv_aload_n C.x C.b dJ2_add_3_5 rfl (lv_at hl 0 rfl) ?_
  refine lv_dup C.x C.b dJ2_add_3_6 rfl ?_
  obtain ⟨k_3, fs_2, v_4, q0, q1, q2, h⟩ := h
  refine z_get C hR q1 q0 (ci := 0) rfl in_J2 0 (by decide) q139 (u_same (C.ts _ q138)) q2 dJ2_add_3_7 ?_
  refine lv_iconst (v := 1) C.x C.b dJ2_add_3_10 (by decide) ?_
  refine lv_iadd C.x C.b dJ2_add_3_11 ?_
  obtain ⟨k_7, fs_5, q0, q1, q2, h⟩ := h
  refine z_put C hR hS q1 q0 (ci := 0) rfl in_J2 tyJ2 tyJ2_ok nmJ2 0 (by decide) q139 (u_same (C.ts _ q138)) rfl ⟨rfl, rfl⟩ q2 dJ2_add_3_12 (fun H locs hR hS => ?_)
  have h := h _ rfl
  generalize zSo g_1 k_7 a0 (fs_5.set 0 (.int (v_4 + 1))) = g_6 at h hR
  refine lv_aload_n C.x C.b dJ2_add_3_15 rfl (lv_at hl 0 rfl) ?_
  obtain ⟨k_9, fs_8, v_10, q0, q1, q2, h⟩ := h
  refine z_get C hR q1 q0 (ci := 0) rfl in_J2 2 (by decide) q135 (fun _ h => h) q2 dJ2_add_3_16 ?_
  refine lv_dup C.x C.b dJ2_add_3_19 rfl ?_
  refine lv_istore_n (lv' := [(3, .int v_10), (0, .ref a0), (1, .int x1), (2, .ref a2)]) C.x C.b dJ2_add_3_20 rfl hl (by decide) rfl (fun ls hl => ?_)
  refine lv_aload_n C.x C.b dJ2_add_3_21 rfl (lv_at hl 1 rfl) ?_
  obtain ⟨k_12, fs_11, a_13, q0, q1, q2, h⟩ := h
  refine z_get C hR q1 q0 (ci := 0) rfl in_J2 1 (by decide) q132 (fun _ h => h) q2 dJ2_add_3_22 ?_
  refine lv_dup C.x C.b dJ2_add_3_25 rfl ?_
  refine lv_astore (lv' := [(4, .ref a_13), (3, .int v_10), (0, .ref a0), (1, .int x1), (2, .ref a2)]) C.x C.b dJ2_add_3_26 hl (by decide) rfl (fun ls hl => ?_)
  obtain ⟨n_14, q1, h⟩ := h
  refine z_alen C hR hS q1 dJ2_add_3_28 ?_
  have h := h _ rfl
  generalize Int32.ofNat n_14 = v_15 at h ⊢
  obtain ⟨h1, h2⟩ := h
  refine lv_icmp_ne (tgt := 38) C.x C.b dJ2_add_3_29 (by decide) (fun c => ?_) (fun c => ?_)
  · have h := h1 c; clear h1 h2
    exact h H locs ls hR hS (lv_sub hl [2, 3, 4, 1, 0] rfl)
  · have h := h2 c; clear h1 h2
    refine lv_aload_n C.x C.b dJ2_add_3_32 rfl (lv_at hl 2 rfl) ?_
    refine z_callV C hR hS hl (n := 0) (C1 := RJ2) (T := TJ2) (N := 3) (ci := 0) (y := yJ2_grow) (bytes := cJ2_grow) (maxL := 1) (rt := (some (.array (.object "java/lang/Object")))) (As := []) (rest := []) h.1 rfl (lw_V q184 q186 qs1 q76 q187) hdV_J2_grow (by decide) rfl rfl (Nat.le_of_ble_eq_true rfl) dJ2_add_3_33 h.2 (fun r g_16 hk_ => ?_) (fun x g1 h => z_out C hQ h)
    clear h; obtain ⟨a_18, rfl, h⟩ := hk_
    show GW X E 5 g_16 36 [(4, .ref a_13), (3, .int v_10), (0, .ref a0), (1, .int x1), (2, .ref a2)] [.ref a_18]
    intro H locs ls hR hS hl
    refine lv_astore (lv' := [(4, .ref a_18), (3, .int v_10), (0, .ref a0), (1, .int x1), (2, .ref a2)]) C.x C.b dJ2_add_3_36 hl (by decide) rfl (fun ls hl => ?_)
    exact h H locs ls hR hS (lv_sub hl [2, 3, 4, 1, 0] rfl)
abbrev wJ2_set : List Cond := ws_ yJ2_set cJ2_set 4 (some (.object "java/lang/Object"))
set_option maxHeartbeats 4000000 in
theorem mJ2_set {X : zX} {d : Nat} {g : zG} {K : Option Value → zG → Prop} {KX : String → zG → Prop} (hok : zOk X) (a0 : Nat) (x1 : Int32) (a2 : Nat) (h : ∃ (k_2 : Nat) (fs_1 : List Value) (v_3 : Int32), zkc k_2 = 0 ∧ zGo g k_2 a0 = some fs_1 ∧ fs_1[2]? = some (.int v_3) ∧ zCal X d yJ14_checkIndex wJ14_checkIndex [.int x1, .int v_3] g (fun r g_4 => ∃ v_5 : Int32, r = some (.int v_5) ∧ zIs g_4 0 a0 ∧ zCal X d yJ2_elementData wJ2_elementData [.ref a0, .int x1] g_4 (fun r g_6 => ∃ r_7 : Option Nat, r = some (va_rf r_7) ∧ ∃ (k_9 : Nat) (fs_8 : List Value) (a_10 : Nat), zkc k_9 = 0 ∧ zGo g_6 k_9 a0 = some fs_8 ∧ fs_8[1]? = some (.ref a_10) ∧ ∃ (t_11 n_12 : Nat) (f_13 : Nat → Option Nat), zGq g_6 t_11 a_10 = some (n_12, f_13) ∧ ¬ t_11 < 64 ∧ vp_in x1 n_12 ∧ zob g_6 a2 ∧ ∀ g_14 : zG, g_14 = zSq g_6 t_11 a_10 n_12 (va_up f_13 x1.toNatClampNeg (some a2)) → K (some (va_rf r_7)) g_14) KX) KX) : zCal X (d + 1) yJ2_set wJ2_set [.ref a0, .int x1, .ref a2] g K KX := by
  refine z_enter hok pn_J2 (Nat.le_of_ble_eq_true rfl) (fun E C hQ => ?_)
  have C : zC X (d + 1) E RJ2 cJ2_set 4 (some (.object "java/lang/Object")) "set" := C
  show GW X E 4 g 0 [(0, .ref a0), (1, .int x1), (2, .ref a2)] []
  intro H locs ls hR hS hl
  refine lv_iload_n C.x C.b dJ2_set_0 rfl (lv_at hl 1 rfl) ?_
  refine lv_aload_n C.x C.b dJ2_set_1 rfl (lv_at hl 0 rfl) ?_
  obtain ⟨k_2, fs_1, v_3, q0, q1, q2, h⟩ := h
  refine z_get C hR q1 q0 (ci := 0) rfl in_J2 2 (by decide) q135 (fun _ h => h) q2 dJ2_set_2 ?_
  refine z_callS C hR hS hl (n := 2) (y := yJ14_checkIndex) (bytes := cJ14_checkIndex) (maxL := 2) (rt := (some .int)) (As := [.int x1, .int v_3]) (rest := []) (lw_S q386 q387 q92 q388) hdS_J14_checkIndex (by decide) rfl rfl (Nat.le_of_ble_eq_true rfl) dJ2_set_5 h (fun r g_4 hk_ => ?_) (fun x g1 h => z_out C hQ h)
  clear h; obtain ⟨v_5, rfl, h⟩ := hk_
  show GW X E 4 g_4 8 [(0, .ref a0), (1, .int x1), (2, .ref a2)] [.int v_5]
  intro H locs ls hR hS hl
  refine lv_pop C.x C.b dJ2_set_8 rfl ?_
  refine lv_aload_n C.x C.b dJ2_set_9 rfl (lv_at hl 0 rfl) ?_
  refine lv_iload_n C.x C.b dJ2_set_10 rfl (lv_at hl 1 rfl) ?_
  refine z_callV C hR hS hl (n := 1) (C1 := RJ2) (T := TJ2) (N := 3) (ci := 0) (y := yJ2_elementData) (bytes := cJ2_elementData) (maxL := 2) (rt := (some (.object "java/lang/Object"))) (As := [.int x1]) (rest := []) h.1 rfl (lw_V q392 q393 q394 q76 q395) hdV_J2_elementData (by decide) rfl rfl (Nat.le_of_ble_eq_true rfl) dJ2_set_11 h.2 (fun r g_6 hk_ => ?_) (fun x g1 h => z_out C hQ h)
  clear h; obtain ⟨r_7, rfl, h⟩ := hk_
  show GW X E 4 g_6 14 [(0, .ref a0), (1, .int x1), (2, .ref a2)] [va_rf r_7]
  intro H locs ls hR hS hl
  refine z_astore_n (lv' := [(3, va_rf r_7), (0, .ref a0), (1, .int x1), (2, .ref a2)]) C.x C.b dJ2_set_14 rfl hl (by decide) rfl (fun ls hl => ?_)
  refine lv_aload_n C.x C.b dJ2_set_15 rfl (lv_at hl 1 rfl) ?_
  obtain ⟨k_9, fs_8, a_10, q0, q1, q2, h⟩ := h
  refine z_get C hR q1 q0 (ci := 0) rfl in_J2 1 (by decide) q132 (fun _ h => h) q2 dJ2_set_16 ?_
  refine lv_iload_n C.x C.b dJ2_set_19 rfl (lv_at hl 2 rfl) ?_
  refine lv_aload_n C.x C.b dJ2_set_20 rfl (lv_at hl 3 rfl) ?_
  obtain ⟨t_11, n_12, f_13, q1, q2, q3, q4, h⟩ := h
  refine z_aast C hR hS q1 q2 q3 q4 dJ2_set_21 (fun H locs hR hS => ?_)
  have h := h _ rfl
  generalize zSq g_6 t_11 a_10 n_12 (va_up f_13 x1.toNatClampNeg (some a2)) = g_14 at h hR
  refine z_aload_n C.x C.b dJ2_set_22 rfl (lv_at hl 0 rfl) ?_
  exact z_aret C hQ (Or.inl ⟨_, rfl⟩) (zrf_rf _) dJ2_set_23 h H locs ls hR hS hl
abbrev wJ2_indexOfRange : List Cond := ws_ yJ2_indexOfRange cJ2_indexOfRange 6 (some .int)
set_option maxHeartbeats 4000000 in
theorem bJ2_indexOfRange_42 {X : zX} {d : Nat} {E : zM} {K : Option Value → zG → Prop} {KX : String → zG → Prop} (C : zC X (d + 1) E RJ2 cJ2_indexOfRange 6 (some .int) "indexOfRange") (hQ : zQ X E K KX) (g : zG) (a1 : Nat) (x3 : Int32) (a4 : Nat) (x5 : Int32) (h : (x3 ≤ x5 → K (some (.int (-1))) g) ∧ (¬ x3 ≤ x5 → ∃ (t_1 n_2 : Nat) (f_3 : Nat → Option Nat), zGq g t_1 a4 = some (n_2, f_3) ∧ vp_in x5 n_2 ∧ ∀ r_4 : Option Nat, r_4 = f_3 x5.toNatClampNeg → zIs g 4 a1 ∧ zCal X d yJ24_equals wJ24_equals [.ref a1, va_rf r_4] g (fun r g_6 => ∃ v_5 : Int32, r = some (.int v_5) ∧ (v_5 = 0 → GW X E 6 g_6 42 [(1, .ref a1), (3, .int x3), (4, .ref a4), (5, .int (x5 + 1))] []) ∧ (¬ v_5 = 0 → K (some (.int x5)) g_6)) KX)) : GW X E 6 g 42 [(1, .ref a1), (3, .int x3), (4, .ref a4), (5, .int x5)] [] := by
  intro H locs ls hR hS hl
  refine lv_iload C.x C.b dJ2_indexOfRange_42 (lv_at hl 3 rfl) ?_
  refine lv_iload_n C.x C.b dJ2_indexOfRange_44 rfl (lv_at hl 1 rfl) ?_
  obtain ⟨h1, h2⟩ := h
  refine lv_icmp_ge (tgt := 69) C.x C.b dJ2_indexOfRange_45 (by decide) (fun c => ?_) (fun c => ?_)
  · have h := h1 c; clear h1 h2
    refine lv_iconst (v := (-1)) C.x C.b dJ2_indexOfRange_69 (by decide) ?_
    exact z_iret C hQ dJ2_indexOfRange_70 h H locs ls hR hS hl
  · have h := h2 c; clear h1 h2
    refine lv_aload_n C.x C.b dJ2_indexOfRange_48 rfl (lv_at hl 0 rfl) ?_
    refine lv_aload C.x C.b dJ2_indexOfRange_49 (lv_at hl 2 rfl) ?_
    refine lv_iload C.x C.b dJ2_indexOfRange_51 (lv_at hl 3 rfl) ?_
    obtain ⟨t_1, n_2, f_3, q1, q2, h⟩ := h
    refine z_aald C hR q1 q2 dJ2_indexOfRange_53 ?_
    have h := h _ rfl
    generalize f_3 x5.toNatClampNeg = r_4 at h ⊢
    refine z_equals C hR hS hl h.1 (Nat.le_of_ble_eq_true rfl) dJ2_indexOfRange_54 h.2 (fun r g_6 hk_ => ?_) (fun x g1 h => z_out C hQ h)
    clear h; obtain ⟨v_5, rfl, h⟩ := hk_
    show GW X E 6 g_6 57 [(1, .ref a1), (3, .int x3), (4, .ref a4), (5, .int x5)] [.int v_5]
    intro H locs ls hR hS hl
    obtain ⟨h1, h2⟩ := h
    refine lv_if_eq (tgt := 63) C.x C.b dJ2_indexOfRange_57 (by decide) (fun c => ?_) (fun c => ?_)
    · have h := h1 c; clear h1 h2
      refine lv_iinc (v := x5 + 1) (lv' := [(5, .int (x5 + 1)), (1, .ref a1), (3, .int x3), (4, .ref a4)]) C.x C.b dJ2_indexOfRange_63 hl (k := 3) rfl rfl (by decide) rfl (fun ls hl => ?_)
      refine lv_goto (tgt := 42) C.x C.b dJ2_indexOfRange_66 (by decide) ?_
      exact h H locs ls hR hS (lv_sub hl [1, 2, 3, 0] rfl)
    · have h := h2 c; clear h1 h2
      refine lv_iload C.x C.b dJ2_indexOfRange_60 (lv_at hl 3 rfl) ?_
      exact z_iret C hQ dJ2_indexOfRange_62 h H locs ls hR hS hl
set_option maxHeartbeats 4000000 in
theorem mJ2_indexOfRange {X : zX} {d : Nat} {g : zG} {K : Option Value → zG → Prop} {KX : String → zG → Prop} (hok : zOk X) (a0 : Nat) (a1 : Nat) (x2 : Int32) (x3 : Int32) (h : ∀ E : zM, zC X (d + 1) E RJ2 cJ2_indexOfRange 6 (some .int) "indexOfRange" → zQ X E K KX → ∃ (k_2 : Nat) (fs_1 : List Value) (a_3 : Nat), zkc k_2 = 0 ∧ zGo g k_2 a0 = some fs_1 ∧ fs_1[1]? = some (.ref a_3) ∧ GW X E 6 g 42 [(1, .ref a1), (3, .int x3), (4, .ref a_3), (5, .int x2)] []) : zCal X (d + 1) yJ2_indexOfRange wJ2_indexOfRange [.ref a0, .ref a1, .int x2, .int x3] g K KX := by
  refine z_enter hok pn_J2 (Nat.le_of_ble_eq_true rfl) (fun E C hQ => ?_)
  have C : zC X (d + 1) E RJ2 cJ2_indexOfRange 6 (some .int) "indexOfRange" := C
  have h := h E C hQ
  show GW X E 6 g 0 [(0, .ref a0), (1, .ref a1), (2, .int x2), (3, .int x3)] []
  intro H locs ls hR hS hl
  refine lv_aload_n C.x C.b dJ2_indexOfRange_0 rfl (lv_at hl 0 rfl) ?_
  obtain ⟨k_2, fs_1, a_3, q0, q1, q2, h⟩ := h
  refine z_get C hR q1 q0 (ci := 0) rfl in_J2 1 (by decide) q132 (fun _ h => h) q2 dJ2_indexOfRange_1 ?_
  refine lv_astore (lv' := [(4, .ref a_3), (0, .ref a0), (1, .ref a1), (2, .int x2), (3, .int x3)]) C.x C.b dJ2_indexOfRange_4 hl (by decide) rfl (fun ls hl => ?_)
  refine lv_aload_n C.x C.b dJ2_indexOfRange_6 rfl (lv_at hl 2 rfl) ?_
  refine lv_ifnonnull (tgt := 39) C.x C.b dJ2_indexOfRange_7 (by decide) ?_
  refine lv_iload_n C.x C.b dJ2_indexOfRange_39 rfl (lv_at hl 3 rfl) ?_
  refine lv_istore (lv' := [(5, .int x2), (4, .ref a_3), (0, .ref a0), (1, .ref a1), (2, .int x2), (3, .int x3)]) C.x C.b dJ2_indexOfRange_40 hl (by decide) rfl (fun ls hl => ?_)
  exact h H locs ls hR hS (lv_sub hl [3, 5, 1, 0] rfl)
theorem hdV_J2_indexOfRange : yJ2_indexOfRange.cls = RJ2 ∧ yJ2_indexOfRange.cls ≠ "java/lang/invoke/MethodHandle" ∧ yJ2_indexOfRange.cls ≠ "java/lang/invoke/VarHandle" ∧ (parseMethodDescriptor yJ2_indexOfRange.desc).map (fun d => d.parameters.length) = some 3 := by decide +kernel
abbrev wJ2_indexOf : List Cond := ws_ yJ2_indexOf cJ2_indexOf 2 (some .int)
set_option maxHeartbeats 4000000 in
theorem mJ2_indexOf {X : zX} {d : Nat} {g : zG} {K : Option Value → zG → Prop} {KX : String → zG → Prop} (hok : zOk X) (a0 : Nat) (a1 : Nat) (h : ∃ (k_2 : Nat) (fs_1 : List Value) (v_3 : Int32), zkc k_2 = 0 ∧ zGo g k_2 a0 = some fs_1 ∧ fs_1[2]? = some (.int v_3) ∧ zIs g 0 a0 ∧ zCal X d yJ2_indexOfRange wJ2_indexOfRange [.ref a0, .ref a1, .int 0, .int v_3] g (fun r g_4 => ∃ v_5 : Int32, r = some (.int v_5) ∧ K (some (.int v_5)) g_4) KX) : zCal X (d + 1) yJ2_indexOf wJ2_indexOf [.ref a0, .ref a1] g K KX := by
  refine z_enter hok pn_J2 (Nat.le_of_ble_eq_true rfl) (fun E C hQ => ?_)
  have C : zC X (d + 1) E RJ2 cJ2_indexOf 2 (some .int) "indexOf" := C
  show GW X E 2 g 0 [(0, .ref a0), (1, .ref a1)] []
  intro H locs ls hR hS hl
  refine lv_aload_n C.x C.b dJ2_indexOf_0 rfl (lv_at hl 0 rfl) ?_
  refine lv_aload_n C.x C.b dJ2_indexOf_1 rfl (lv_at hl 1 rfl) ?_
  refine lv_iconst (v := 0) C.x C.b dJ2_indexOf_2 (by decide) ?_
  refine lv_aload_n C.x C.b dJ2_indexOf_3 rfl (lv_at hl 0 rfl) ?_
  obtain ⟨k_2, fs_1, v_3, q0, q1, q2, h⟩ := h
  refine z_get C hR q1 q0 (ci := 0) rfl in_J2 2 (by decide) q135 (fun _ h => h) q2 dJ2_indexOf_4 ?_
  refine z_callV C hR hS hl (n := 3) (C1 := RJ2) (T := TJ2) (N := 3) (ci := 0) (y := yJ2_indexOfRange) (bytes := cJ2_indexOfRange) (maxL := 6) (rt := (some .int)) (As := [.ref a1, .int 0, .int v_3]) (rest := []) h.1 rfl (lw_V q537 q538 q539 q76 q540) hdV_J2_indexOfRange (by decide) rfl rfl (Nat.le_of_ble_eq_true rfl) dJ2_indexOf_7 h.2 (fun r g_4 hk_ => ?_) (fun x g1 h => z_out C hQ h)
  clear h; obtain ⟨v_5, rfl, h⟩ := hk_
  show GW X E 2 g_4 10 [(0, .ref a0), (1, .ref a1)] [.int v_5]
  intro H locs ls hR hS hl
  exact z_iret C hQ dJ2_indexOf_10 h H locs ls hR hS hl
theorem hdV_J2_indexOf : yJ2_indexOf.cls = RJ2 ∧ yJ2_indexOf.cls ≠ "java/lang/invoke/MethodHandle" ∧ yJ2_indexOf.cls ≠ "java/lang/invoke/VarHandle" ∧ (parseMethodDescriptor yJ2_indexOf.desc).map (fun d => d.parameters.length) = some 1 := by decide +kernel
abbrev wJ2_contains : List Cond := ws_ yJ2_contains cJ2_contains 2 (some .boolean)
set_option maxHeartbeats 4000000 in
theorem mJ2_contains {X : zX} {d : Nat} {g : zG} {K : Option Value → zG → Prop} {KX : String → zG → Prop} (hok : zOk X) (a0 : Nat) (a1 : Nat) (h : zIs g 0 a0 ∧ zCal X d yJ2_indexOf wJ2_indexOf [.ref a0, .ref a1] g (fun r g_1 => ∃ v_2 : Int32, r = some (.int v_2) ∧ (v_2 < 0 → K (some (.int 0)) g_1) ∧ (¬ v_2 < 0 → K (some (.int 1)) g_1)) KX) : zCal X (d + 1) yJ2_contains wJ2_contains [.ref a0, .ref a1] g K KX := by
  refine z_enter hok pn_J2 (Nat.le_of_ble_eq_true rfl) (fun E C hQ => ?_)
  have C : zC X (d + 1) E RJ2 cJ2_contains 2 (some .boolean) "contains" := C
  show GW X E 2 g 0 [(0, .ref a0), (1, .ref a1)] []
  intro H locs ls hR hS hl
  refine lv_aload_n C.x C.b dJ2_contains_0 rfl (lv_at hl 0 rfl) ?_
  refine lv_aload_n C.x C.b dJ2_contains_1 rfl (lv_at hl 1 rfl) ?_
  refine z_callV C hR hS hl (n := 1) (C1 := RJ2) (T := TJ2) (N := 3) (ci := 0) (y := yJ2_indexOf) (bytes := cJ2_indexOf) (maxL := 2) (rt := (some .int)) (As := [.ref a1]) (rest := []) h.1 rfl (lw_V q595 q534 q2143 q76 q536) hdV_J2_indexOf (by decide) rfl rfl (Nat.le_of_ble_eq_true rfl) dJ2_contains_2 h.2 (fun r g_1 hk_ => ?_) (fun x g1 h => z_out C hQ h)
  clear h; obtain ⟨v_2, rfl, h⟩ := hk_
  show GW X E 2 g_1 5 [(0, .ref a0), (1, .ref a1)] [.int v_2]
  intro H locs ls hR hS hl
  obtain ⟨h1, h2⟩ := h
  refine lv_if_lt (tgt := 12) C.x C.b dJ2_contains_5 (by decide) (fun c => ?_) (fun c => ?_)
  · have h := h1 c; clear h1 h2
    refine lv_iconst (v := 0) C.x C.b dJ2_contains_12 (by decide) ?_
    exact z_zret C hQ rfl dJ2_contains_13 h H locs ls hR hS hl
  · have h := h2 c; clear h1 h2
    refine lv_iconst (v := 1) C.x C.b dJ2_contains_8 (by decide) ?_
    refine lv_goto (tgt := 13) C.x C.b dJ2_contains_9 (by decide) ?_
    exact z_zret C hQ rfl dJ2_contains_13 h H locs ls hR hS hl
abbrev wJ2_toArray : List Cond := ws_ yJ2_toArray cJ2_toArray 1 (some (.array (.object "java/lang/Object")))
set_option maxHeartbeats 4000000 in
theorem mJ2_toArray {X : zX} {d : Nat} {g : zG} {K : Option Value → zG → Prop} {KX : String → zG → Prop} (hok : zOk X) (a0 : Nat) (h : ∃ (k_2 : Nat) (fs_1 : List Value) (a_3 : Nat), zkc k_2 = 0 ∧ zGo g k_2 a0 = some fs_1 ∧ fs_1[1]? = some (.ref a_3) ∧ ∃ (k_5 : Nat) (fs_4 : List Value) (v_6 : Int32), zkc k_5 = 0 ∧ zGo g k_5 a0 = some fs_4 ∧ fs_4[2]? = some (.int v_6) ∧ zCal X d yJ5_copyOf wJ5_copyOf [.ref a_3, .int v_6] g (fun r g_7 => ∃ a_9 : Nat, r = some (.ref a_9) ∧ K (some (.ref a_9)) g_7) KX) : zCal X (d + 1) yJ2_toArray wJ2_toArray [.ref a0] g K KX := by
  refine z_enter hok pn_J2 (Nat.le_of_ble_eq_true rfl) (fun E C hQ => ?_)
  have C : zC X (d + 1) E RJ2 cJ2_toArray 1 (some (.array (.object "java/lang/Object"))) "toArray" := C
  show GW X E 1 g 0 [(0, .ref a0)] []
  intro H locs ls hR hS hl
  refine lv_aload_n C.x C.b dJ2_toArray_0 rfl (lv_at hl 0 rfl) ?_
  obtain ⟨k_2, fs_1, a_3, q0, q1, q2, h⟩ := h
  refine z_get C hR q1 q0 (ci := 0) rfl in_J2 1 (by decide) q132 (fun _ h => h) q2 dJ2_toArray_1 ?_
  refine lv_aload_n C.x C.b dJ2_toArray_4 rfl (lv_at hl 0 rfl) ?_
  obtain ⟨k_5, fs_4, v_6, q0, q1, q2, h⟩ := h
  refine z_get C hR q1 q0 (ci := 0) rfl in_J2 2 (by decide) q135 (fun _ h => h) q2 dJ2_toArray_5 ?_
  refine z_callS C hR hS hl (n := 2) (y := yJ5_copyOf) (bytes := cJ5_copyOf) (maxL := 2) (rt := (some (.array (.object "java/lang/Object")))) (As := [.ref a_3, .int v_6]) (rest := []) (lw_S q202 q203 q80 q204) hdS_J5_copyOf (by decide) rfl rfl (Nat.le_of_ble_eq_true rfl) dJ2_toArray_8 h (fun r g_7 hk_ => ?_) (fun x g1 h => z_out C hQ h)
  clear h; obtain ⟨a_9, rfl, h⟩ := hk_
  show GW X E 1 g_7 11 [(0, .ref a0)] [.ref a_9]
  intro H locs ls hR hS hl
  exact z_aret C hQ (Or.inr ⟨_, rfl⟩) (Or.inr ⟨_, rfl⟩) dJ2_toArray_11 h H locs ls hR hS hl
abbrev wJ22_init : List Cond := ws_ yJ22_init cJ22_init 2 none
set_option maxHeartbeats 4000000 in
theorem mJ22_init {X : zX} {d : Nat} {g : zG} {K : Option Value → zG → Prop} {KX : String → zG → Prop} (hok : zOk X) (a0 : Nat) (a1 : Nat) (h : ∃ (fs_1 : List Value), zGo g 11 a0 = some fs_1 ∧ 3 < fs_1.length ∧ ∀ g_2 : zG, g_2 = zSo g 11 a0 (fs_1.set 3 (.ref a1)) → ∃ (fs_3 : List Value), zGo g_2 11 a0 = some fs_3 ∧ 1 < fs_3.length ∧ ∀ g_4 : zG, g_4 = zSo g_2 11 a0 (fs_3.set 1 (.int (-1))) → ∃ (fs_5 : List Value) (a_6 : Nat), zGo g_4 11 a0 = some fs_5 ∧ fs_5[3]? = some (.ref a_6) ∧ ∃ (k_8 : Nat) (fs_7 : List Value) (v_9 : Int32), zkc k_8 = 0 ∧ zGo g_4 k_8 a_6 = some fs_7 ∧ fs_7[0]? = some (.int v_9) ∧ ∃ (fs_10 : List Value), zGo g_4 11 a0 = some fs_10 ∧ 2 < fs_10.length ∧ ∀ g_11 : zG, g_11 = zSo g_4 11 a0 (fs_10.set 2 (.int v_9)) → K none g_11) : zCal X (d + 1) yJ22_init wJ22_init [.ref a0, .ref a1] g K KX := by
  refine z_enter hok pn_J22 (Nat.le_of_ble_eq_true rfl) (fun E C hQ => ?_)
  have C : zC X (d + 1) E RJ22 cJ22_init 2 none "<init>" := C
  show GW X E 2 g 0 [(0, .ref a0), (1, .ref a1)] []
  intro H locs ls hR hS hl
  refine lv_aload_n C.x C.b dJ22_init_0 rfl (lv_at hl 0 rfl) ?_
  refine lv_aload_n C.x C.b dJ22_init_1 rfl (lv_at hl 1 rfl) ?_
  obtain ⟨fs_1, q1, q2, h⟩ := h
  refine z_putF C hR hS q1 rfl (ci := 11) rfl in_J22 tyJ22 tyJ22_ok nmJ22 3 (by decide) q342 (fun _ h => h) rfl rfl rfl ⟨rfl, rfl⟩ q2 dJ22_init_2 (fun H locs hR hS => ?_)
  have h := h _ rfl
  generalize zSo g 11 a0 (fs_1.set 3 (.ref a1)) = g_2 at h hR
  refine lv_aload_n C.x C.b dJ22_init_5 rfl (lv_at hl 0 rfl) ?_
  refine z_objInit C hl q338 (Nat.le_of_ble_eq_true rfl) dJ22_init_6 ?_
  refine lv_aload_n C.x C.b dJ22_init_9 rfl (lv_at hl 0 rfl) ?_
  refine lv_iconst (v := (-1)) C.x C.b dJ22_init_10 (by decide) ?_
  obtain ⟨fs_3, q1, q2, h⟩ := h
  refine z_put C hR hS q1 rfl (ci := 11) rfl in_J22 tyJ22 tyJ22_ok nmJ22 1 (by decide) q340 (fun _ h => h) rfl ⟨rfl, rfl⟩ q2 dJ22_init_11 (fun H locs hR hS => ?_)
  have h := h _ rfl
  generalize zSo g_2 11 a0 (fs_3.set 1 (.int (-1))) = g_4 at h hR
  refine lv_aload_n C.x C.b dJ22_init_14 rfl (lv_at hl 0 rfl) ?_
  refine lv_aload_n C.x C.b dJ22_init_15 rfl (lv_at hl 0 rfl) ?_
  obtain ⟨fs_5, a_6, q1, q2, h⟩ := h
  refine z_get C hR q1 rfl (ci := 11) rfl in_J22 3 (by decide) q342 (fun _ h => h) q2 dJ22_init_16 ?_
  obtain ⟨k_8, fs_7, v_9, q0, q1, q2, h⟩ := h
  refine z_get C hR q1 q0 (ci := 0) rfl in_J2 0 (by decide) q137 (u_same (C.ts _ q138)) q2 dJ22_init_19 ?_
  obtain ⟨fs_10, q1, q2, h⟩ := h
  refine z_put C hR hS q1 rfl (ci := 11) rfl in_J22 tyJ22 tyJ22_ok nmJ22 2 (by decide) q341 (fun _ h => h) rfl ⟨rfl, rfl⟩ q2 dJ22_init_22 (fun H locs hR hS => ?_)
  have h := h _ rfl
  generalize zSo g_4 11 a0 (fs_10.set 2 (.int v_9)) = g_11 at h hR
  exact z_vret C hQ dJ22_init_25 h H locs ls hR hS hl
theorem hdS_J22_init : yJ22_init.cls ≠ "java/lang/invoke/MethodHandle" ∧ yJ22_init.cls ≠ "java/lang/invoke/VarHandle" ∧ (parseMethodDescriptor yJ22_init.desc).map (fun d => d.parameters.length) = some 1 := by decide +kernel
abbrev wJ2_iterator : List Cond := ws_ yJ2_iterator cJ2_iterator 1 (some (.object "java/util/Iterator"))
set_option maxHeartbeats 4000000 in
theorem mJ2_iterator {X : zX} {d : Nat} {g : zG} {K : Option Value → zG → Prop} {KX : String → zG → Prop} (hok : zOk X) (a0 : Nat) (h : zGz g + 1 + 4 ≤ zz X ∧ ∀ a_1 : Nat, zFr g a_1 → ∀ g_2 : zG, g_2 = zSz (zSo g 11 a_1 [.int 0, .int 0, .int 0, .null]) (zGz g + 1 + 4) → zCal X d yJ22_init wJ22_init [.ref a_1, .ref a0] g_2 (fun r g_3 => r = none ∧ K (some (.ref a_1)) g_3) KX) : zCal X (d + 1) yJ2_iterator wJ2_iterator [.ref a0] g K KX := by
  refine z_enter hok pn_J2 (Nat.le_of_ble_eq_true rfl) (fun E C hQ => ?_)
  have C : zC X (d + 1) E RJ2 cJ2_iterator 1 (some (.object "java/util/Iterator")) "iterator" := C
  show GW X E 1 g 0 [(0, .ref a0)] []
  intro H locs ls hR hS hl
  obtain ⟨q1, h⟩ := h
  refine z_new C hR hS 11 rfl (ci := 11) rfl in_J22 tyJ22 tyJ22_ok q333 q334 q101 (fs := [.int 0, .int 0, .int 0, .null]) zdf_J22 q1 dJ2_iterator_0 (fun a_1 hf H hR hS => ?_)
  have h := h a_1 hf _ rfl
  generalize zSz (zSo g 11 a_1 [.int 0, .int 0, .int 0, .null]) (zGz g + 1 + 4) = g_2 at h hR
  refine lv_dup C.x C.b dJ2_iterator_3 rfl ?_
  refine lv_aload_n C.x C.b dJ2_iterator_4 rfl (lv_at hl 0 rfl) ?_
  refine z_callI C hR hS hl (n := 1) (y := yJ22_init) (bytes := cJ22_init) (maxL := 2) (As := [.ref a0]) (rest := [.ref a_1]) (lw_meth q337) q101 q335 q336 rfl hdS_J22_init (by decide) rfl rfl (Nat.le_of_ble_eq_true rfl) dJ2_iterator_5 h (fun r g_3 hk_ => ?_) (fun x g1 h => z_out C hQ h)
  clear h; obtain ⟨rfl, h⟩ := hk_
  show GW X E 1 g_3 8 [(0, .ref a0)] [.ref a_1]
  intro H locs ls hR hS hl
  exact z_aret C hQ (Or.inl ⟨_, rfl⟩) (Or.inr ⟨_, rfl⟩) dJ2_iterator_8 h H locs ls hR hS hl
abbrev wJ22_hasNext : List Cond := ws_ yJ22_hasNext cJ22_hasNext 1 (some .boolean)
set_option maxHeartbeats 4000000 in
theorem mJ22_hasNext {X : zX} {d : Nat} {g : zG} {K : Option Value → zG → Prop} {KX : String → zG → Prop} (hok : zOk X) (a0 : Nat) (h : ∃ (fs_1 : List Value) (v_2 : Int32), zGo g 11 a0 = some fs_1 ∧ fs_1[0]? = some (.int v_2) ∧ ∃ (fs_3 : List Value) (a_4 : Nat), zGo g 11 a0 = some fs_3 ∧ fs_3[3]? = some (.ref a_4) ∧ ∃ (k_6 : Nat) (fs_5 : List Value) (v_7 : Int32), zkc k_6 = 0 ∧ zGo g k_6 a_4 = some fs_5 ∧ fs_5[2]? = some (.int v_7) ∧ (v_2 = v_7 → K (some (.int 0)) g) ∧ (¬ v_2 = v_7 → K (some (.int 1)) g)) : zCal X d yJ22_hasNext wJ22_hasNext [.ref a0] g K KX := by
  refine z_enter hok pn_J22 (Nat.le_of_ble_eq_true rfl) (fun E C hQ => ?_)
  have C : zC X d E RJ22 cJ22_hasNext 1 (some .boolean) "hasNext" := C
  show GW X E 1 g 0 [(0, .ref a0)] []
  intro H locs ls hR hS hl
  refine lv_aload_n C.x C.b dJ22_hasNext_0 rfl (lv_at hl 0 rfl) ?_
  obtain ⟨fs_1, v_2, q1, q2, h⟩ := h
  refine z_get C hR q1 rfl (ci := 11) rfl in_J22 0 (by decide) q339 (fun _ h => h) q2 dJ22_hasNext_1 ?_
  refine lv_aload_n C.x C.b dJ22_hasNext_4 rfl (lv_at hl 0 rfl) ?_
  obtain ⟨fs_3, a_4, q1, q2, h⟩ := h
  refine z_get C hR q1 rfl (ci := 11) rfl in_J22 3 (by decide) q342 (fun _ h => h) q2 dJ22_hasNext_5 ?_
  obtain ⟨k_6, fs_5, v_7, q0, q1, q2, h⟩ := h
  refine z_getN C hR q1 q0 (ci := 0) rfl in_J2 2 (by decide) q134 (fun _ h => h) q2 dJ22_hasNext_8 ?_
  obtain ⟨h1, h2⟩ := h
  refine lv_icmp_eq (tgt := 18) C.x C.b dJ22_hasNext_11 (by decide) (fun c => ?_) (fun c => ?_)
  · have h := h1 c; clear h1 h2
    refine lv_iconst (v := 0) C.x C.b dJ22_hasNext_18 (by decide) ?_
    exact z_zret C hQ rfl dJ22_hasNext_19 h H locs ls hR hS hl
  · have h := h2 c; clear h1 h2
    refine lv_iconst (v := 1) C.x C.b dJ22_hasNext_14 (by decide) ?_
    refine lv_goto (tgt := 19) C.x C.b dJ22_hasNext_15 (by decide) ?_
    exact z_zret C hQ rfl dJ22_hasNext_19 h H locs ls hR hS hl
abbrev wJ22_checkForComodification : List Cond := ws_ yJ22_checkForComodification cJ22_checkForComodification 1 none
set_option maxHeartbeats 4000000 in
theorem mJ22_checkForComodification {X : zX} {d : Nat} {g : zG} {K : Option Value → zG → Prop} {KX : String → zG → Prop} (hok : zOk X) (a0 : Nat) (h : ∃ (fs_1 : List Value) (a_2 : Nat), zGo g 11 a0 = some fs_1 ∧ fs_1[3]? = some (.ref a_2) ∧ ∃ (k_4 : Nat) (fs_3 : List Value) (v_5 : Int32), zkc k_4 = 0 ∧ zGo g k_4 a_2 = some fs_3 ∧ fs_3[0]? = some (.int v_5) ∧ ∃ (fs_6 : List Value) (v_7 : Int32), zGo g 11 a0 = some fs_6 ∧ fs_6[2]? = some (.int v_7) ∧ (v_5 = v_7 → K none g) ∧ (¬ v_5 = v_7 → False)) : zCal X d yJ22_checkForComodification wJ22_checkForComodification [.ref a0] g K KX := by
  refine z_enter hok pn_J22 (Nat.le_of_ble_eq_true rfl) (fun E C hQ => ?_)
  have C : zC X d E RJ22 cJ22_checkForComodification 1 none "checkForComodification" := C
  show GW X E 1 g 0 [(0, .ref a0)] []
  intro H locs ls hR hS hl
  refine lv_aload_n C.x C.b dJ22_checkForComodification_0 rfl (lv_at hl 0 rfl) ?_
  obtain ⟨fs_1, a_2, q1, q2, h⟩ := h
  refine z_get C hR q1 rfl (ci := 11) rfl in_J22 3 (by decide) q342 (fun _ h => h) q2 dJ22_checkForComodification_1 ?_
  obtain ⟨k_4, fs_3, v_5, q0, q1, q2, h⟩ := h
  refine z_get C hR q1 q0 (ci := 0) rfl in_J2 0 (by decide) q137 (u_same (C.ts _ q138)) q2 dJ22_checkForComodification_4 ?_
  refine lv_aload_n C.x C.b dJ22_checkForComodification_7 rfl (lv_at hl 0 rfl) ?_
  obtain ⟨fs_6, v_7, q1, q2, h⟩ := h
  refine z_get C hR q1 rfl (ci := 11) rfl in_J22 2 (by decide) q341 (fun _ h => h) q2 dJ22_checkForComodification_8 ?_
  obtain ⟨h1, h2⟩ := h
  refine lv_icmp_eq (tgt := 22) C.x C.b dJ22_checkForComodification_11 (by decide) (fun c => ?_) (fun c => ?_)
  · have h := h1 c; clear h1 h2
    exact z_vret C hQ dJ22_checkForComodification_22 h H locs ls hR hS hl
  · have h := h2 c; clear h1 h2
    exact h.elim
theorem hdV_J22_checkForComodification : yJ22_checkForComodification.cls = RJ22 ∧ yJ22_checkForComodification.cls ≠ "java/lang/invoke/MethodHandle" ∧ yJ22_checkForComodification.cls ≠ "java/lang/invoke/VarHandle" ∧ (parseMethodDescriptor yJ22_checkForComodification.desc).map (fun d => d.parameters.length) = some 0 := by decide +kernel
abbrev wJ22_next : List Cond := ws_ yJ22_next cJ22_next 3 (some (.object "java/lang/Object"))
set_option maxHeartbeats 4000000 in
theorem mJ22_next {X : zX} {d : Nat} {g : zG} {K : Option Value → zG → Prop} {KX : String → zG → Prop} (hok : zOk X) (a0 : Nat) (h : zIs g 11 a0 ∧ zCal X d yJ22_checkForComodification wJ22_checkForComodification [.ref a0] g (fun r g_1 => r = none ∧ ∃ (fs_2 : List Value) (v_3 : Int32), zGo g_1 11 a0 = some fs_2 ∧ fs_2[0]? = some (.int v_3) ∧ ∃ (fs_4 : List Value) (a_5 : Nat), zGo g_1 11 a0 = some fs_4 ∧ fs_4[3]? = some (.ref a_5) ∧ ∃ (k_7 : Nat) (fs_6 : List Value) (v_8 : Int32), zkc k_7 = 0 ∧ zGo g_1 k_7 a_5 = some fs_6 ∧ fs_6[2]? = some (.int v_8) ∧ (v_3 < v_8 → ∃ (fs_9 : List Value) (a_10 : Nat), zGo g_1 11 a0 = some fs_9 ∧ fs_9[3]? = some (.ref a_10) ∧ ∃ (k_12 : Nat) (fs_11 : List Value) (a_13 : Nat), zkc k_12 = 0 ∧ zGo g_1 k_12 a_10 = some fs_11 ∧ fs_11[1]? = some (.ref a_13) ∧ ∃ n_14 : Nat, zlen X g_1 a_13 n_14 ∧ ∀ v_15 : Int32, v_15 = Int32.ofNat n_14 → (v_3 < v_15 → ∃ (fs_16 : List Value), zGo g_1 11 a0 = some fs_16 ∧ 0 < fs_16.length ∧ ∀ g_17 : zG, g_17 = zSo g_1 11 a0 (fs_16.set 0 (.int (v_3 + 1))) → ∃ (fs_18 : List Value), zGo g_17 11 a0 = some fs_18 ∧ 1 < fs_18.length ∧ ∀ g_19 : zG, g_19 = zSo g_17 11 a0 (fs_18.set 1 (.int v_3)) → ∃ (t_20 n_21 : Nat) (f_22 : Nat → Option Nat), zGq g_19 t_20 a_13 = some (n_21, f_22) ∧ vp_in v_3 n_21 ∧ ∀ r_23 : Option Nat, r_23 = f_22 v_3.toNatClampNeg → K (some (va_rf r_23)) g_19) ∧ (¬ v_3 < v_15 → False)) ∧ (¬ v_3 < v_8 → False)) KX) : zCal X (d + 1) yJ22_next wJ22_next [.ref a0] g K KX := by
  refine z_enter hok pn_J22 (Nat.le_of_ble_eq_true rfl) (fun E C hQ => ?_)
  have C : zC X (d + 1) E RJ22 cJ22_next 3 (some (.object "java/lang/Object")) "next" := C
  show GW X E 3 g 0 [(0, .ref a0)] []
  intro H locs ls hR hS hl
  refine lv_aload_n C.x C.b dJ22_next_0 rfl (lv_at hl 0 rfl) ?_
  refine z_callV C hR hS hl (n := 0) (C1 := RJ22) (T := TJ22) (N := 4) (ci := 11) (y := yJ22_checkForComodification) (bytes := cJ22_checkForComodification) (maxL := 1) (rt := none) (As := []) (rest := []) h.1 rfl (lw_V q371 q372 q373 q101 q374) hdV_J22_checkForComodification (by decide) rfl rfl (Nat.le_of_ble_eq_true rfl) dJ22_next_1 h.2 (fun r g_1 hk_ => ?_) (fun x g1 h => z_out C hQ h)
  clear h; obtain ⟨rfl, h⟩ := hk_
  show GW X E 3 g_1 4 [(0, .ref a0)] []
  intro H locs ls hR hS hl
  refine lv_aload_n C.x C.b dJ22_next_4 rfl (lv_at hl 0 rfl) ?_
  obtain ⟨fs_2, v_3, q1, q2, h⟩ := h
  refine z_get C hR q1 rfl (ci := 11) rfl in_J22 0 (by decide) q339 (fun _ h => h) q2 dJ22_next_5 ?_
  refine lv_istore_n (lv' := [(1, .int v_3), (0, .ref a0)]) C.x C.b dJ22_next_8 rfl hl (by decide) rfl (fun ls hl => ?_)
  refine lv_iload_n C.x C.b dJ22_next_9 rfl (lv_at hl 0 rfl) ?_
  refine lv_aload_n C.x C.b dJ22_next_10 rfl (lv_at hl 1 rfl) ?_
  obtain ⟨fs_4, a_5, q1, q2, h⟩ := h
  refine z_get C hR q1 rfl (ci := 11) rfl in_J22 3 (by decide) q342 (fun _ h => h) q2 dJ22_next_11 ?_
  obtain ⟨k_7, fs_6, v_8, q0, q1, q2, h⟩ := h
  refine z_getN C hR q1 q0 (ci := 0) rfl in_J2 2 (by decide) q134 (fun _ h => h) q2 dJ22_next_14 ?_
  obtain ⟨h1, h2⟩ := h
  refine lv_icmp_lt (tgt := 28) C.x C.b dJ22_next_17 (by decide) (fun c => ?_) (fun c => ?_)
  · have h := h1 c; clear h1 h2
    refine lv_aload_n C.x C.b dJ22_next_28 rfl (lv_at hl 1 rfl) ?_
    obtain ⟨fs_9, a_10, q1, q2, h⟩ := h
    refine z_get C hR q1 rfl (ci := 11) rfl in_J22 3 (by decide) q342 (fun _ h => h) q2 dJ22_next_29 ?_
    obtain ⟨k_12, fs_11, a_13, q0, q1, q2, h⟩ := h
    refine z_get C hR q1 q0 (ci := 0) rfl in_J2 1 (by decide) q133 (fun _ h => h) q2 dJ22_next_32 ?_
    refine lv_astore_n (lv' := [(2, .ref a_13), (1, .int v_3), (0, .ref a0)]) C.x C.b dJ22_next_35 rfl hl (by decide) rfl (fun ls hl => ?_)
    refine lv_iload_n C.x C.b dJ22_next_36 rfl (lv_at hl 1 rfl) ?_
    refine lv_aload_n C.x C.b dJ22_next_37 rfl (lv_at hl 0 rfl) ?_
    obtain ⟨n_14, q1, h⟩ := h
    refine z_alen C hR hS q1 dJ22_next_38 ?_
    have h := h _ rfl
    generalize Int32.ofNat n_14 = v_15 at h ⊢
    obtain ⟨h1, h2⟩ := h
    refine lv_icmp_lt (tgt := 50) C.x C.b dJ22_next_39 (by decide) (fun c => ?_) (fun c => ?_)
    · have h := h1 c; clear h1 h2
      refine lv_aload_n C.x C.b dJ22_next_50 rfl (lv_at hl 2 rfl) ?_
      refine lv_iload_n C.x C.b dJ22_next_51 rfl (lv_at hl 1 rfl) ?_
      refine lv_iconst (v := 1) C.x C.b dJ22_next_52 (by decide) ?_
      refine lv_iadd C.x C.b dJ22_next_53 ?_
      obtain ⟨fs_16, q1, q2, h⟩ := h
      refine z_put C hR hS q1 rfl (ci := 11) rfl in_J22 tyJ22 tyJ22_ok nmJ22 0 (by decide) q339 (fun _ h => h) rfl ⟨rfl, rfl⟩ q2 dJ22_next_54 (fun H locs hR hS => ?_)
      have h := h _ rfl
      generalize zSo g_1 11 a0 (fs_16.set 0 (.int (v_3 + 1))) = g_17 at h hR
      refine lv_aload_n C.x C.b dJ22_next_57 rfl (lv_at hl 0 rfl) ?_
      refine lv_aload_n C.x C.b dJ22_next_58 rfl (lv_at hl 2 rfl) ?_
      refine lv_iload_n C.x C.b dJ22_next_59 rfl (lv_at hl 1 rfl) ?_
      refine lv_dup_x1 C.x C.b dJ22_next_60 rfl rfl ?_
      obtain ⟨fs_18, q1, q2, h⟩ := h
      refine z_put C hR hS q1 rfl (ci := 11) rfl in_J22 tyJ22 tyJ22_ok nmJ22 1 (by decide) q340 (fun _ h => h) rfl ⟨rfl, rfl⟩ q2 dJ22_next_61 (fun H locs hR hS => ?_)
      have h := h _ rfl
      generalize zSo g_17 11 a0 (fs_18.set 1 (.int v_3)) = g_19 at h hR
      obtain ⟨t_20, n_21, f_22, q1, q2, h⟩ := h
      refine z_aald C hR q1 q2 dJ22_next_64 ?_
      have h := h _ rfl
      generalize f_22 v_3.toNatClampNeg = r_23 at h ⊢
      exact z_aret C hQ (Or.inl ⟨_, rfl⟩) (zrf_rf _) dJ22_next_65 h H locs ls hR hS hl
    · have h := h2 c; clear h1 h2
      exact h.elim
  · have h := h2 c; clear h1 h2
    exact h.elim
