set_option maxRecDepth 100000
set_option maxHeartbeats 4000000 in
theorem mX9_init {X : zX} {d : Nat} {g : zG} {K : Option Value → zG → Prop} {KX : String → zG → Prop} (hok : zOk X) (a0 : Nat) (a1 : Nat) (a2 : Nat) (h : ∃ (fs_1 : List Value), zGo g 9 a0 = some fs_1 ∧ 3 < fs_1.length ∧ ∀ g_2 : zG, g_2 = zSo g 9 a0 (fs_1.set 3 (.ref a1)) → ∃ k_5 : Nat, zkc k_5 = 0 ∧ zGz g_2 + 1 + 3 ≤ zz X ∧ ∀ a_3 : Nat, zFr g_2 a_3 → ∀ g_4 : zG, g_4 = zSz (zSo g_2 k_5 a_3 [.int 0, .null, .int 0]) (zGz g_2 + 1 + 3) → zCal X d yJ2_init wJ2_init [.ref a_3] g_4 (fun r g_6 => r = none ∧ ∃ (fs_7 : List Value), zGo g_6 9 a0 = some fs_7 ∧ 0 < fs_7.length ∧ ∀ g_8 : zG, g_8 = zSo g_6 9 a0 (fs_7.set 0 (.ref a_3)) → ∃ (fs_9 : List Value), zGo g_8 9 a0 = some fs_9 ∧ 1 < fs_9.length ∧ ∀ g_10 : zG, g_10 = zSo g_8 9 a0 (fs_9.set 1 (.ref a2)) → zIs g_10 0 a2 ∧ zCal X d yJ2_size wJ2_size [.ref a2] g_10 (fun r g_11 => ∃ v_12 : Int32, r = some (.int v_12) ∧ ∃ i_15 : Nat, i_15 < 8 ∧ ¬ v_12 < 0 ∧ v_12.toNatClampNeg ≤ 1000 ∧ zGz g_11 + 1 + 82 * v_12.toNatClampNeg ≤ zz X ∧ ∀ a_13 : Nat, zFr g_11 a_13 → (∀ j : Nat, j < v_12.toNatClampNeg → zFr g_11 (a_13 + 1 + j)) → ∀ g_14 : zG, g_14 = zSm g_11 i_15 a_13 v_12.toNatClampNeg → ∃ (fs_16 : List Value), zGo g_14 9 a0 = some fs_16 ∧ 2 < fs_16.length ∧ ∀ g_17 : zG, g_17 = zSo g_14 9 a0 (fs_16.set 2 (.ref a_13)) → K none g_17) KX) KX) : zCal X (d + 1) yX9_init wX9_init [.ref a0, .ref a1, .ref a2] g K KX := by
  refine z_enter hok pn_X9 (Nat.le_of_ble_eq_true rfl) (fun E C hQ => ?_)
  have C : zC X (d + 1) E RX9 cX9_init 3 none "<init>" := C
  show GW X E 3 g 0 [(0, .ref a0), (1, .ref a1), (2, .ref a2)] []
  intro H locs ls hR hS hl
  refine lv_aload_n C.x C.b dX9_init_0 rfl (lv_at hl 0 rfl) ?_
  refine lv_aload_n C.x C.b dX9_init_1 rfl (lv_at hl 1 rfl) ?_
  obtain ⟨fs_1, q1, q2, h⟩ := h
  refine z_putF C hR hS q1 rfl (ci := 9) rfl in_X9 tyX9 tyX9_ok nmX9 3 (by decide) q1424 (fun _ h => h) rfl rfl rfl ⟨rfl, rfl⟩ q2 dX9_init_2 (fun H locs hR hS => ?_)
  have h := h _ rfl
  generalize zSo g 9 a0 (fs_1.set 3 (.ref a1)) = g_2 at h hR
  refine lv_aload_n C.x C.b dX9_init_5 rfl (lv_at hl 0 rfl) ?_
  refine z_objInit C hl q1414 (Nat.le_of_ble_eq_true rfl) dX9_init_6 ?_
  refine lv_aload_n C.x C.b dX9_init_9 rfl (lv_at hl 0 rfl) ?_
  obtain ⟨k_5, q0, q1, h⟩ := h
  refine z_new C hR hS k_5 q0 (ci := 0) rfl in_J2 tyJ2 tyJ2_ok q1415 q119 q76 (fs := [.int 0, .null, .int 0]) zdf_J2 q1 dX9_init_10 (fun a_3 hf H hR hS => ?_)
  have h := h a_3 hf _ rfl
  generalize zSz (zSo g_2 k_5 a_3 [.int 0, .null, .int 0]) (zGz g_2 + 1 + 3) = g_4 at h hR
  refine lv_dup C.x C.b dX9_init_13 rfl ?_
  refine z_callI C hR hS hl (n := 0) (y := yJ2_init) (bytes := cJ2_init) (maxL := 1) (As := []) (rest := [.ref a_3, .ref a0]) (lw_meth q122) q76 q1416 q121 rfl hdS_J2_init (by decide) rfl rfl (Nat.le_of_ble_eq_true rfl) dX9_init_14 h (fun r g_6 hk_ => ?_) (fun x g1 h => z_out C hQ h)
  clear h; obtain ⟨rfl, h⟩ := hk_
  show GW X E 3 g_6 17 [(0, .ref a0), (1, .ref a1), (2, .ref a2)] [.ref a_3, .ref a0]
  intro H locs ls hR hS hl
  obtain ⟨fs_7, q1, q2, h⟩ := h
  refine z_putF C hR hS q1 rfl (ci := 9) rfl in_X9 tyX9 tyX9_ok nmX9 0 (by decide) q1419 (fun _ h => h) rfl rfl rfl ⟨rfl, rfl⟩ q2 dX9_init_17 (fun H locs hR hS => ?_)
  have h := h _ rfl
  generalize zSo g_6 9 a0 (fs_7.set 0 (.ref a_3)) = g_8 at h hR
  refine lv_aload_n C.x C.b dX9_init_20 rfl (lv_at hl 0 rfl) ?_
  refine lv_aload_n C.x C.b dX9_init_21 rfl (lv_at hl 2 rfl) ?_
  obtain ⟨fs_9, q1, q2, h⟩ := h
  refine z_putF C hR hS q1 rfl (ci := 9) rfl in_X9 tyX9 tyX9_ok nmX9 1 (by decide) q1421 (fun _ h => h) rfl rfl rfl ⟨rfl, rfl⟩ q2 dX9_init_22 (fun H locs hR hS => ?_)
  have h := h _ rfl
  generalize zSo g_8 9 a0 (fs_9.set 1 (.ref a2)) = g_10 at h hR
  refine lv_aload_n C.x C.b dX9_init_25 rfl (lv_at hl 0 rfl) ?_
  refine lv_aload_n C.x C.b dX9_init_26 rfl (lv_at hl 2 rfl) ?_
  refine z_callF C hR hS hl (n := 0) (C1 := RJ2) (T := TJ2) (N := 3) (ci := 0) (y := yJ2_size) (bytes := cJ2_size) (maxL := 1) (rt := (some .int)) (As := []) (rest := [.ref a0]) (x := ⟨"java/util/List", "size", "()I"⟩) h.1 rfl (lw_F q463 q294 q296 q76 q298) ⟨C.ok.2.1 _ q293, C.ok.2.1 _ q292, C.ok.2.1 _ q297, C.ok.2.1 _ q295, C.ok.2.1 _ q174⟩ hdF_J2_size (by decide) rfl rfl (Nat.le_of_ble_eq_true rfl) dX9_init_27 h.2 (fun r g_11 hk_ => ?_) (fun x g1 h => z_out C hQ h)
  clear h; obtain ⟨v_12, rfl, h⟩ := hk_
  show GW X E 3 g_11 32 [(0, .ref a0), (1, .ref a1), (2, .ref a2)] [.int v_12, .ref a0]
  intro H locs ls hR hS hl
  refine lv_bipush (v := 80) C.x C.b dX9_init_32 (by decide) ?_
  obtain ⟨i_15, q0, q1, q2, q3, h⟩ := h
  refine z_multi C hR hS i_15 q0 q1 q2 q3 dX9_init_34 (fun a_13 hf hf2 H hR hS => ?_)
  have h := h a_13 hf hf2 _ rfl
  generalize zSm g_11 i_15 a_13 v_12.toNatClampNeg = g_14 at h hR
  obtain ⟨fs_16, q1, q2, h⟩ := h
  refine z_putF C hR hS q1 rfl (ci := 9) rfl in_X9 tyX9 tyX9_ok nmX9 2 (by decide) q1422 (fun _ h => h) rfl rfl rfl ⟨rfl, rfl⟩ q2 dX9_init_38 (fun H locs hR hS => ?_)
  have h := h _ rfl
  generalize zSo g_14 9 a0 (fs_16.set 2 (.ref a_13)) = g_17 at h hR
  exact z_vret C hQ dX9_init_41 h H locs ls hR hS hl
