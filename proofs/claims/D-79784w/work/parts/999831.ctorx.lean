set_option maxRecDepth 100000
set_option maxHeartbeats 4000000 in
theorem bX1_init_39 {X : zX} {d : Nat} {E : zM} {K : Option Value → zG → Prop} {KX : String → zG → Prop} (C : zC X (d + 1) E RX1 cX1_init 2 none "<init>") (hQ : zQ X E K KX) (g : zG) (a0 : Nat) (h : ∃ k_3 : Nat, zkc k_3 = 0 ∧ zGz g + 1 + 3 ≤ zz X ∧ ∀ a_1 : Nat, zFr g a_1 → ∀ g_2 : zG, g_2 = zSz (zSo g k_3 a_1 [.int 0, .null, .int 0]) (zGz g + 1 + 3) → zCal X d yJ2_init wJ2_init [.ref a_1] g_2 (fun r g_4 => r = none ∧ ∃ (fs_5 : List Value), zGo g_4 1 a0 = some fs_5 ∧ 4 < fs_5.length ∧ ∀ g_6 : zG, g_6 = zSo g_4 1 a0 (fs_5.set 4 (.ref a_1)) → ∃ (fs_7 : List Value), zGo g_6 1 a0 = some fs_7 ∧ 6 < fs_7.length ∧ ∀ g_8 : zG, g_8 = zSo g_6 1 a0 (fs_7.set 6 (.int 1)) → ∃ k_11 : Nat, zkc k_11 = 0 ∧ zGz g_8 + 1 + 3 ≤ zz X ∧ ∀ a_9 : Nat, zFr g_8 a_9 → ∀ g_10 : zG, g_10 = zSz (zSo g_8 k_11 a_9 [.int 0, .null, .int 0]) (zGz g_8 + 1 + 3) → zCal X d yJ2_init wJ2_init [.ref a_9] g_10 (fun r g_12 => r = none ∧ ∃ (fs_13 : List Value), zGo g_12 1 a0 = some fs_13 ∧ 8 < fs_13.length ∧ ∀ g_14 : zG, g_14 = zSo g_12 1 a0 (fs_13.set 8 (.ref a_9)) → ∃ k_17 : Nat, zkc k_17 = 0 ∧ zGz g_14 + 1 + 3 ≤ zz X ∧ ∀ a_15 : Nat, zFr g_14 a_15 → ∀ g_16 : zG, g_16 = zSz (zSo g_14 k_17 a_15 [.int 0, .null, .int 0]) (zGz g_14 + 1 + 3) → zCal X d yJ2_init wJ2_init [.ref a_15] g_16 (fun r g_18 => r = none ∧ ∃ (fs_19 : List Value), zGo g_18 1 a0 = some fs_19 ∧ 9 < fs_19.length ∧ ∀ g_20 : zG, g_20 = zSo g_18 1 a0 (fs_19.set 9 (.ref a_15)) → GW X E 2 g_20 77 [(0, .ref a0)] []) KX) KX) KX) : GW X E 2 g 39 [(0, .ref a0)] [] := by
  intro H locs ls hR hS hl
  refine lv_aload_n C.x C.b dX1_init_39 rfl (lv_at hl 0 rfl) ?_
  obtain ⟨k_3, q0, q1, h⟩ := h
  refine z_new C hR hS k_3 q0 (ci := 0) rfl in_J2 tyJ2 tyJ2_ok q118 q119 q76 (fs := [.int 0, .null, .int 0]) zdf_J2 q1 dX1_init_40 (fun a_1 hf H hR hS => ?_)
  have h := h a_1 hf _ rfl
  generalize zSz (zSo g k_3 a_1 [.int 0, .null, .int 0]) (zGz g + 1 + 3) = g_2 at h hR
  refine lv_dup C.x C.b dX1_init_43 rfl ?_
  refine z_callI C hR hS hl (n := 0) (y := yJ2_init) (bytes := cJ2_init) (maxL := 1) (As := []) (rest := [.ref a_1, .ref a0]) (lw_meth q122) q76 q120 q121 rfl hdS_J2_init (by decide) rfl rfl (Nat.le_of_ble_eq_true rfl) dX1_init_44 h (fun r g_4 hk_ => ?_) (fun x g1 h => z_out C hQ h)
  clear h; obtain ⟨rfl, h⟩ := hk_
  show GW X E 2 g_4 47 [(0, .ref a0)] [.ref a_1, .ref a0]
  intro H locs ls hR hS hl
  obtain ⟨fs_5, q1, q2, h⟩ := h
  refine z_putF C hR hS q1 rfl (ci := 1) rfl in_X1 tyX1 tyX1_ok nmX1 4 (by decide) q250 (fun _ h => h) rfl rfl rfl ⟨rfl, rfl⟩ q2 dX1_init_47 (fun H locs hR hS => ?_)
  have h := h _ rfl
  generalize zSo g_4 1 a0 (fs_5.set 4 (.ref a_1)) = g_6 at h hR
  refine lv_aload_n C.x C.b dX1_init_50 rfl (lv_at hl 0 rfl) ?_
  refine lv_iconst (v := 1) C.x C.b dX1_init_51 (by decide) ?_
  obtain ⟨fs_7, q1, q2, h⟩ := h
  refine z_put C hR hS q1 rfl (ci := 1) rfl in_X1 tyX1 tyX1_ok nmX1 6 (by decide) q253 (fun _ h => h) rfl ⟨rfl, rfl⟩ q2 dX1_init_52 (fun H locs hR hS => ?_)
  have h := h _ rfl
  generalize zSo g_6 1 a0 (fs_7.set 6 (.int 1)) = g_8 at h hR
  refine lv_aload_n C.x C.b dX1_init_55 rfl (lv_at hl 0 rfl) ?_
  obtain ⟨k_11, q0, q1, h⟩ := h
  refine z_new C hR hS k_11 q0 (ci := 0) rfl in_J2 tyJ2 tyJ2_ok q118 q119 q76 (fs := [.int 0, .null, .int 0]) zdf_J2 q1 dX1_init_56 (fun a_9 hf H hR hS => ?_)
  have h := h a_9 hf _ rfl
  generalize zSz (zSo g_8 k_11 a_9 [.int 0, .null, .int 0]) (zGz g_8 + 1 + 3) = g_10 at h hR
  refine lv_dup C.x C.b dX1_init_59 rfl ?_
  refine z_callI C hR hS hl (n := 0) (y := yJ2_init) (bytes := cJ2_init) (maxL := 1) (As := []) (rest := [.ref a_9, .ref a0]) (lw_meth q122) q76 q120 q121 rfl hdS_J2_init (by decide) rfl rfl (Nat.le_of_ble_eq_true rfl) dX1_init_60 h (fun r g_12 hk_ => ?_) (fun x g1 h => z_out C hQ h)
  clear h; obtain ⟨rfl, h⟩ := hk_
  show GW X E 2 g_12 63 [(0, .ref a0)] [.ref a_9, .ref a0]
  intro H locs ls hR hS hl
  obtain ⟨fs_13, q1, q2, h⟩ := h
  refine z_putF C hR hS q1 rfl (ci := 1) rfl in_X1 tyX1 tyX1_ok nmX1 8 (by decide) q256 (fun _ h => h) rfl rfl rfl ⟨rfl, rfl⟩ q2 dX1_init_63 (fun H locs hR hS => ?_)
  have h := h _ rfl
  generalize zSo g_12 1 a0 (fs_13.set 8 (.ref a_9)) = g_14 at h hR
  refine lv_aload_n C.x C.b dX1_init_66 rfl (lv_at hl 0 rfl) ?_
  obtain ⟨k_17, q0, q1, h⟩ := h
  refine z_new C hR hS k_17 q0 (ci := 0) rfl in_J2 tyJ2 tyJ2_ok q118 q119 q76 (fs := [.int 0, .null, .int 0]) zdf_J2 q1 dX1_init_67 (fun a_15 hf H hR hS => ?_)
  have h := h a_15 hf _ rfl
  generalize zSz (zSo g_14 k_17 a_15 [.int 0, .null, .int 0]) (zGz g_14 + 1 + 3) = g_16 at h hR
  refine lv_dup C.x C.b dX1_init_70 rfl ?_
  refine z_callI C hR hS hl (n := 0) (y := yJ2_init) (bytes := cJ2_init) (maxL := 1) (As := []) (rest := [.ref a_15, .ref a0]) (lw_meth q122) q76 q120 q121 rfl hdS_J2_init (by decide) rfl rfl (Nat.le_of_ble_eq_true rfl) dX1_init_71 h (fun r g_18 hk_ => ?_) (fun x g1 h => z_out C hQ h)
  clear h; obtain ⟨rfl, h⟩ := hk_
  show GW X E 2 g_18 74 [(0, .ref a0)] [.ref a_15, .ref a0]
  intro H locs ls hR hS hl
  obtain ⟨fs_19, q1, q2, h⟩ := h
  refine z_putF C hR hS q1 rfl (ci := 1) rfl in_X1 tyX1 tyX1_ok nmX1 9 (by decide) q257 (fun _ h => h) rfl rfl rfl ⟨rfl, rfl⟩ q2 dX1_init_74 (fun H locs hR hS => ?_)
  have h := h _ rfl
  generalize zSo g_18 1 a0 (fs_19.set 9 (.ref a_15)) = g_20 at h hR
  exact h H locs ls hR hS (lv_sub hl [0] rfl)
set_option maxHeartbeats 4000000 in
theorem bX1_init_77 {X : zX} {d : Nat} {E : zM} {K : Option Value → zG → Prop} {KX : String → zG → Prop} (C : zC X (d + 1) E RX1 cX1_init 2 none "<init>") (hQ : zQ X E K KX) (g : zG) (a0 : Nat) (h : ¬ (80 : Int32) < 0 ∧ (80 : Int32).toNatClampNeg ≤ 100000 ∧ zGz g + 1 + (80 : Int32).toNatClampNeg ≤ zz X ∧ ∀ a_1 : Nat, zFr g a_1 → ∀ g_2 : zG, g_2 = (zSz (zSi g 51 a_1 (80 : Int32).toNatClampNeg (fun _ => 0)) (zGz g + 1 + (80 : Int32).toNatClampNeg)) → ∃ (fs_3 : List Value), zGo g_2 1 a0 = some fs_3 ∧ 10 < fs_3.length ∧ ∀ g_4 : zG, g_4 = zSo g_2 1 a0 (fs_3.set 10 (.ref a_1)) → ∃ k_7 : Nat, zkc k_7 = 0 ∧ zGz g_4 + 1 + 3 ≤ zz X ∧ ∀ a_5 : Nat, zFr g_4 a_5 → ∀ g_6 : zG, g_6 = zSz (zSo g_4 k_7 a_5 [.int 0, .null, .int 0]) (zGz g_4 + 1 + 3) → zCal X d yJ2_init wJ2_init [.ref a_5] g_6 (fun r g_8 => r = none ∧ ∃ (fs_9 : List Value), zGo g_8 1 a0 = some fs_9 ∧ 11 < fs_9.length ∧ ∀ g_10 : zG, g_10 = zSo g_8 1 a0 (fs_9.set 11 (.ref a_5)) → GW X E 2 g_10 96 [(0, .ref a0)] []) KX) : GW X E 2 g 77 [(0, .ref a0)] [] := by
  intro H locs ls hR hS hl
  refine lv_aload_n C.x C.b dX1_init_77 rfl (lv_at hl 0 rfl) ?_
  refine lv_bipush (v := 80) C.x C.b dX1_init_78 (by decide) ?_
  obtain ⟨q1, q2, q3, h⟩ := h
  refine z_newI C hR hS 51 (by decide) q147 q1 q2 q3 dX1_init_80 (fun a_1 hf H hR hS => ?_)
  have h := h a_1 hf _ rfl
  generalize (zSz (zSi g 51 a_1 (80 : Int32).toNatClampNeg (fun _ => 0)) (zGz g + 1 + (80 : Int32).toNatClampNeg)) = g_2 at h hR
  obtain ⟨fs_3, q1, q2, h⟩ := h
  refine z_putF C hR hS q1 rfl (ci := 1) rfl in_X1 tyX1 tyX1_ok nmX1 10 (by decide) q259 (fun _ h => h) rfl rfl rfl ⟨rfl, rfl⟩ q2 dX1_init_82 (fun H locs hR hS => ?_)
  have h := h _ rfl
  generalize zSo g_2 1 a0 (fs_3.set 10 (.ref a_1)) = g_4 at h hR
  refine lv_aload_n C.x C.b dX1_init_85 rfl (lv_at hl 0 rfl) ?_
  obtain ⟨k_7, q0, q1, h⟩ := h
  refine z_new C hR hS k_7 q0 (ci := 0) rfl in_J2 tyJ2 tyJ2_ok q118 q119 q76 (fs := [.int 0, .null, .int 0]) zdf_J2 q1 dX1_init_86 (fun a_5 hf H hR hS => ?_)
  have h := h a_5 hf _ rfl
  generalize zSz (zSo g_4 k_7 a_5 [.int 0, .null, .int 0]) (zGz g_4 + 1 + 3) = g_6 at h hR
  refine lv_dup C.x C.b dX1_init_89 rfl ?_
  refine z_callI C hR hS hl (n := 0) (y := yJ2_init) (bytes := cJ2_init) (maxL := 1) (As := []) (rest := [.ref a_5, .ref a0]) (lw_meth q122) q76 q120 q121 rfl hdS_J2_init (by decide) rfl rfl (Nat.le_of_ble_eq_true rfl) dX1_init_90 h (fun r g_8 hk_ => ?_) (fun x g1 h => z_out C hQ h)
  clear h; obtain ⟨rfl, h⟩ := hk_
  show GW X E 2 g_8 93 [(0, .ref a0)] [.ref a_5, .ref a0]
  intro H locs ls hR hS hl
  obtain ⟨fs_9, q1, q2, h⟩ := h
  refine z_putF C hR hS q1 rfl (ci := 1) rfl in_X1 tyX1 tyX1_ok nmX1 11 (by decide) q260 (fun _ h => h) rfl rfl rfl ⟨rfl, rfl⟩ q2 dX1_init_93 (fun H locs hR hS => ?_)
  have h := h _ rfl
  generalize zSo g_8 1 a0 (fs_9.set 11 (.ref a_5)) = g_10 at h hR
  exact h H locs ls hR hS (lv_sub hl [0] rfl)
set_option maxHeartbeats 4000000 in
theorem bX1_init_96 {X : zX} {d : Nat} {E : zM} {K : Option Value → zG → Prop} {KX : String → zG → Prop} (C : zC X (d + 1) E RX1 cX1_init 2 none "<init>") (hQ : zQ X E K KX) (g : zG) (a0 : Nat) (h : GW X E 2 g 98 [(0, .ref a0), (1, .int 0)] []) : GW X E 2 g 96 [(0, .ref a0)] [] := by
  intro H locs ls hR hS hl
  refine lv_iconst (v := 0) C.x C.b dX1_init_96 (by decide) ?_
  refine lv_istore_n (lv' := [(1, .int 0), (0, .ref a0)]) C.x C.b dX1_init_97 rfl hl (by decide) rfl (fun ls hl => ?_)
  exact h H locs ls hR hS (lv_sub hl [1, 0] rfl)
set_option maxHeartbeats 4000000 in
theorem bX1_init_98 {X : zX} {d : Nat} {E : zM} {K : Option Value → zG → Prop} {KX : String → zG → Prop} (C : zC X (d + 1) E RX1 cX1_init 2 none "<init>") (hQ : zQ X E K KX) (g : zG) (a0 : Nat) (x1 : Int32) (h : (8 ≤ x1 → K none g) ∧ (¬ 8 ≤ x1 → ∃ (fs_1 : List Value) (a_2 : Nat), zGo g 1 a0 = some fs_1 ∧ fs_1[4]? = some (.ref a_2) ∧ zGz g + 1 + 5 ≤ zz X ∧ ∀ a_3 : Nat, zFr g a_3 → ∀ g_4 : zG, g_4 = zSz (zSo g 2 a_3 [.int 0, .int 0, .null, .null, .null]) (zGz g + 1 + 5) → zCal X d yX2_init wX2_init [.ref a_3, .int 0, .int 11000] g_4 (fun r g_5 => r = none ∧ zIs g_5 0 a_2 ∧ zCal X d yJ2_add wJ2_add [.ref a_2, .ref a_3] g_5 (fun r g_6 => ∃ v_7 : Int32, r = some (.int v_7) ∧ zbo v_7 ∧ GW X E 2 g_6 98 [(0, .ref a0), (1, .int (x1 + 1))] []) KX) KX)) : GW X E 2 g 98 [(0, .ref a0), (1, .int x1)] [] := by
  intro H locs ls hR hS hl
  refine lv_iload_n C.x C.b dX1_init_98 rfl (lv_at hl 1 rfl) ?_
  refine lv_bipush (v := 8) C.x C.b dX1_init_99 (by decide) ?_
  obtain ⟨h1, h2⟩ := h
  refine lv_icmp_ge (tgt := 131) C.x C.b dX1_init_101 (by decide) (fun c => ?_) (fun c => ?_)
  · have h := h1 c; clear h1 h2
    exact z_vret C hQ dX1_init_131 h H locs ls hR hS hl
  · have h := h2 c; clear h1 h2
    refine lv_aload_n C.x C.b dX1_init_104 rfl (lv_at hl 0 rfl) ?_
    obtain ⟨fs_1, a_2, q1, q2, h⟩ := h
    refine z_get C hR q1 rfl (ci := 1) rfl in_X1 4 (by decide) q250 (fun _ h => h) q2 dX1_init_105 ?_
    obtain ⟨q1, h⟩ := h
    refine z_new C hR hS 2 rfl (ci := 2) rfl in_X2 tyX2 tyX2_ok q148 q149 q77 (fs := [.int 0, .int 0, .null, .null, .null]) zdf_X2 q1 dX1_init_108 (fun a_3 hf H hR hS => ?_)
    have h := h a_3 hf _ rfl
    generalize zSz (zSo g 2 a_3 [.int 0, .int 0, .null, .null, .null]) (zGz g + 1 + 5) = g_4 at h hR
    refine lv_dup C.x C.b dX1_init_111 rfl ?_
    refine lv_iconst (v := 0) C.x C.b dX1_init_112 (by decide) ?_
    refine lv_sipush (v := 11000) C.x C.b dX1_init_113 (by decide) ?_
    refine z_callI C hR hS hl (n := 2) (y := yX2_init) (bytes := cX2_init) (maxL := 3) (As := [.int 0, .int 11000]) (rest := [.ref a_3, .ref a_2]) (lw_meth q152) q77 q150 q151 rfl hdS_X2_init (by decide) rfl rfl (Nat.le_of_ble_eq_true rfl) dX1_init_116 h (fun r g_5 hk_ => ?_) (fun x g1 h => z_out C hQ h)
    clear h; obtain ⟨rfl, h⟩ := hk_
    show GW X E 2 g_5 119 [(0, .ref a0), (1, .int x1)] [.ref a_3, .ref a_2]
    intro H locs ls hR hS hl
    refine z_callF C hR hS hl (n := 1) (C1 := RJ2) (T := TJ2) (N := 3) (ci := 0) (y := yJ2_add) (bytes := cJ2_add) (maxL := 2) (rt := (some .boolean)) (As := [.ref a_3]) (rest := []) (x := ⟨"java/util/List", "add", "(Ljava/lang/Object;)Z"⟩) h.1 rfl (lw_F q171 q175 q177 q76 q179) ⟨C.ok.2.1 _ q173, C.ok.2.1 _ q172, C.ok.2.1 _ q178, C.ok.2.1 _ q176, C.ok.2.1 _ q174⟩ hdF_J2_add (by decide) rfl rfl (Nat.le_of_ble_eq_true rfl) dX1_init_119 h.2 (fun r g_6 hk_ => ?_) (fun x g1 h => z_out C hQ h)
    clear h; obtain ⟨v_7, rfl, zb_, h⟩ := hk_
    show GW X E 2 g_6 124 [(0, .ref a0), (1, .int x1)] [.int v_7]
    intro H locs ls hR hS hl
    refine lv_pop C.x C.b dX1_init_124 rfl ?_
    refine lv_iinc (v := x1 + 1) (lv' := [(1, .int (x1 + 1)), (0, .ref a0)]) C.x C.b dX1_init_125 hl (k := 1) rfl rfl (by decide) rfl (fun ls hl => ?_)
    refine lv_goto (tgt := 98) C.x C.b dX1_init_128 (by decide) ?_
    exact h H locs ls hR hS (lv_sub hl [1, 0] rfl)
set_option maxHeartbeats 4000000 in
theorem mX1_init {X : zX} {d : Nat} {g : zG} {K : Option Value → zG → Prop} {KX : String → zG → Prop} (hok : zOk X) (a0 : Nat) (h : ∀ E : zM, zC X (d + 1) E RX1 cX1_init 2 none "<init>" → zQ X E K KX → ¬ (4 : Int32) < 0 ∧ (4 : Int32).toNatClampNeg ≤ 100000 ∧ zGz g + 1 + (4 : Int32).toNatClampNeg ≤ zz X ∧ ∀ a_1 : Nat, zFr g a_1 → ∀ g_2 : zG, g_2 = (zSz (zSi g 50 a_1 (4 : Int32).toNatClampNeg (fun _ => 0)) (zGz g + 1 + (4 : Int32).toNatClampNeg)) → ∃ (fs_3 : List Value), zGo g_2 1 a0 = some fs_3 ∧ 0 < fs_3.length ∧ ∀ g_4 : zG, g_4 = zSo g_2 1 a0 (fs_3.set 0 (.ref a_1)) → ∃ (fs_5 : List Value), zGo g_4 1 a0 = some fs_5 ∧ 1 < fs_5.length ∧ ∀ g_6 : zG, g_6 = zSo g_4 1 a0 (fs_5.set 1 (.int 50)) → ∃ k_9 : Nat, zkc k_9 = 0 ∧ zGz g_6 + 1 + 3 ≤ zz X ∧ ∀ a_7 : Nat, zFr g_6 a_7 → ∀ g_8 : zG, g_8 = zSz (zSo g_6 k_9 a_7 [.int 0, .null, .int 0]) (zGz g_6 + 1 + 3) → zCal X d yJ2_init wJ2_init [.ref a_7] g_8 (fun r g_10 => r = none ∧ ∃ (fs_11 : List Value), zGo g_10 1 a0 = some fs_11 ∧ 2 < fs_11.length ∧ ∀ g_12 : zG, g_12 = zSo g_10 1 a0 (fs_11.set 2 (.ref a_7)) → ∃ k_15 : Nat, zkc k_15 = 0 ∧ zGz g_12 + 1 + 3 ≤ zz X ∧ ∀ a_13 : Nat, zFr g_12 a_13 → ∀ g_14 : zG, g_14 = zSz (zSo g_12 k_15 a_13 [.int 0, .null, .int 0]) (zGz g_12 + 1 + 3) → zCal X d yJ2_init wJ2_init [.ref a_13] g_14 (fun r g_16 => r = none ∧ ∃ (fs_17 : List Value), zGo g_16 1 a0 = some fs_17 ∧ 3 < fs_17.length ∧ ∀ g_18 : zG, g_18 = zSo g_16 1 a0 (fs_17.set 3 (.ref a_13)) → GW X E 2 g_18 39 [(0, .ref a0)] []) KX) KX) : zCal X (d + 1) yX1_init wX1_init [.ref a0] g K KX := by
  refine z_enter hok pn_X1 (Nat.le_of_ble_eq_true rfl) (fun E C hQ => ?_)
  have C : zC X (d + 1) E RX1 cX1_init 2 none "<init>" := C
  have h := h E C hQ
  show GW X E 2 g 0 [(0, .ref a0)] []
  intro H locs ls hR hS hl
  refine lv_aload_n C.x C.b dX1_init_0 rfl (lv_at hl 0 rfl) ?_
  refine z_objInit C hl q115 (Nat.le_of_ble_eq_true rfl) dX1_init_1 ?_
  refine lv_aload_n C.x C.b dX1_init_4 rfl (lv_at hl 0 rfl) ?_
  refine lv_iconst (v := 4) C.x C.b dX1_init_5 (by decide) ?_
  obtain ⟨q1, q2, q3, h⟩ := h
  refine z_newI C hR hS 50 (by decide) q147 q1 q2 q3 dX1_init_6 (fun a_1 hf H hR hS => ?_)
  have h := h a_1 hf _ rfl
  generalize (zSz (zSi g 50 a_1 (4 : Int32).toNatClampNeg (fun _ => 0)) (zGz g + 1 + (4 : Int32).toNatClampNeg)) = g_2 at h hR
  obtain ⟨fs_3, q1, q2, h⟩ := h
  refine z_putF C hR hS q1 rfl (ci := 1) rfl in_X1 tyX1 tyX1_ok nmX1 0 (by decide) q243 (fun _ h => h) rfl rfl rfl ⟨rfl, rfl⟩ q2 dX1_init_8 (fun H locs hR hS => ?_)
  have h := h _ rfl
  generalize zSo g_2 1 a0 (fs_3.set 0 (.ref a_1)) = g_4 at h hR
  refine lv_aload_n C.x C.b dX1_init_11 rfl (lv_at hl 0 rfl) ?_
  refine lv_bipush (v := 50) C.x C.b dX1_init_12 (by decide) ?_
  obtain ⟨fs_5, q1, q2, h⟩ := h
  refine z_put C hR hS q1 rfl (ci := 1) rfl in_X1 tyX1 tyX1_ok nmX1 1 (by decide) q244 (fun _ h => h) rfl ⟨rfl, rfl⟩ q2 dX1_init_14 (fun H locs hR hS => ?_)
  have h := h _ rfl
  generalize zSo g_4 1 a0 (fs_5.set 1 (.int 50)) = g_6 at h hR
  refine lv_aload_n C.x C.b dX1_init_17 rfl (lv_at hl 0 rfl) ?_
  obtain ⟨k_9, q0, q1, h⟩ := h
  refine z_new C hR hS k_9 q0 (ci := 0) rfl in_J2 tyJ2 tyJ2_ok q118 q119 q76 (fs := [.int 0, .null, .int 0]) zdf_J2 q1 dX1_init_18 (fun a_7 hf H hR hS => ?_)
  have h := h a_7 hf _ rfl
  generalize zSz (zSo g_6 k_9 a_7 [.int 0, .null, .int 0]) (zGz g_6 + 1 + 3) = g_8 at h hR
  refine lv_dup C.x C.b dX1_init_21 rfl ?_
  refine z_callI C hR hS hl (n := 0) (y := yJ2_init) (bytes := cJ2_init) (maxL := 1) (As := []) (rest := [.ref a_7, .ref a0]) (lw_meth q122) q76 q120 q121 rfl hdS_J2_init (by decide) rfl rfl (Nat.le_of_ble_eq_true rfl) dX1_init_22 h (fun r g_10 hk_ => ?_) (fun x g1 h => z_out C hQ h)
  clear h; obtain ⟨rfl, h⟩ := hk_
  show GW X E 2 g_10 25 [(0, .ref a0)] [.ref a_7, .ref a0]
  intro H locs ls hR hS hl
  obtain ⟨fs_11, q1, q2, h⟩ := h
  refine z_putF C hR hS q1 rfl (ci := 1) rfl in_X1 tyX1 tyX1_ok nmX1 2 (by decide) q245 (fun _ h => h) rfl rfl rfl ⟨rfl, rfl⟩ q2 dX1_init_25 (fun H locs hR hS => ?_)
  have h := h _ rfl
  generalize zSo g_10 1 a0 (fs_11.set 2 (.ref a_7)) = g_12 at h hR
  refine lv_aload_n C.x C.b dX1_init_28 rfl (lv_at hl 0 rfl) ?_
  obtain ⟨k_15, q0, q1, h⟩ := h
  refine z_new C hR hS k_15 q0 (ci := 0) rfl in_J2 tyJ2 tyJ2_ok q118 q119 q76 (fs := [.int 0, .null, .int 0]) zdf_J2 q1 dX1_init_29 (fun a_13 hf H hR hS => ?_)
  have h := h a_13 hf _ rfl
  generalize zSz (zSo g_12 k_15 a_13 [.int 0, .null, .int 0]) (zGz g_12 + 1 + 3) = g_14 at h hR
  refine lv_dup C.x C.b dX1_init_32 rfl ?_
  refine z_callI C hR hS hl (n := 0) (y := yJ2_init) (bytes := cJ2_init) (maxL := 1) (As := []) (rest := [.ref a_13, .ref a0]) (lw_meth q122) q76 q120 q121 rfl hdS_J2_init (by decide) rfl rfl (Nat.le_of_ble_eq_true rfl) dX1_init_33 h (fun r g_16 hk_ => ?_) (fun x g1 h => z_out C hQ h)
  clear h; obtain ⟨rfl, h⟩ := hk_
  show GW X E 2 g_16 36 [(0, .ref a0)] [.ref a_13, .ref a0]
  intro H locs ls hR hS hl
  obtain ⟨fs_17, q1, q2, h⟩ := h
  refine z_putF C hR hS q1 rfl (ci := 1) rfl in_X1 tyX1 tyX1_ok nmX1 3 (by decide) q248 (fun _ h => h) rfl rfl rfl ⟨rfl, rfl⟩ q2 dX1_init_36 (fun H locs hR hS => ?_)
  have h := h _ rfl
  generalize zSo g_16 1 a0 (fs_17.set 3 (.ref a_13)) = g_18 at h hR
  exact h H locs ls hR hS (lv_sub hl [0] rfl)
