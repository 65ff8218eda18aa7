set_option maxRecDepth 100000
set_option maxHeartbeats 4000000 in
theorem bX3_init_25 {X : zX} {d : Nat} {E : zM} {K : Option Value → zG → Prop} {KX : String → zG → Prop} (C : zC X (d + 1) E RX3 cX3_init 1 none "<init>") (hQ : zQ X E K KX) (g : zG) (a0 : Nat) (h : ¬ (80 : Int32) < 0 ∧ (80 : Int32).toNatClampNeg ≤ 100000 ∧ zGz g + 1 + (80 : Int32).toNatClampNeg ≤ zz X ∧ ∀ a_1 : Nat, zFr g a_1 → ∀ g_2 : zG, g_2 = (zSz (zSi g 7 a_1 (80 : Int32).toNatClampNeg (fun _ => 0)) (zGz g + 1 + (80 : Int32).toNatClampNeg)) → ∃ (fs_3 : List Value), zGo g_2 3 a0 = some fs_3 ∧ 7 < fs_3.length ∧ ∀ g_4 : zG, g_4 = zSo g_2 3 a0 (fs_3.set 7 (.ref a_1)) → ¬ (80 : Int32) < 0 ∧ (80 : Int32).toNatClampNeg ≤ 100000 ∧ zGz g_4 + 1 + (80 : Int32).toNatClampNeg ≤ zz X ∧ ∀ a_5 : Nat, zFr g_4 a_5 → ∀ g_6 : zG, g_6 = (zSz (zSi g_4 8 a_5 (80 : Int32).toNatClampNeg (fun _ => 0)) (zGz g_4 + 1 + (80 : Int32).toNatClampNeg)) → ∃ (fs_7 : List Value), zGo g_6 3 a0 = some fs_7 ∧ 8 < fs_7.length ∧ ∀ g_8 : zG, g_8 = zSo g_6 3 a0 (fs_7.set 8 (.ref a_5)) → ¬ (80 : Int32) < 0 ∧ (80 : Int32).toNatClampNeg ≤ 100000 ∧ zGz g_8 + 1 + (80 : Int32).toNatClampNeg ≤ zz X ∧ ∀ a_9 : Nat, zFr g_8 a_9 → ∀ g_10 : zG, g_10 = (zSz (zSi g_8 9 a_9 (80 : Int32).toNatClampNeg (fun _ => 0)) (zGz g_8 + 1 + (80 : Int32).toNatClampNeg)) → ∃ (fs_11 : List Value), zGo g_10 3 a0 = some fs_11 ∧ 9 < fs_11.length ∧ ∀ g_12 : zG, g_12 = zSo g_10 3 a0 (fs_11.set 9 (.ref a_9)) → GW X E 1 g_12 49 [(0, .ref a0)] []) : GW X E 1 g 25 [(0, .ref a0)] [] := by
  intro H locs ls hR hS hl
  refine lv_aload_n C.x C.b dX3_init_25 rfl (lv_at hl 0 rfl) ?_
  refine lv_bipush (v := 80) C.x C.b dX3_init_26 (by decide) ?_
  obtain ⟨q1, q2, q3, h⟩ := h
  refine z_newI C hR hS 7 (by decide) q147 q1 q2 q3 dX3_init_28 (fun a_1 hf H hR hS => ?_)
  have h := h a_1 hf _ rfl
  generalize (zSz (zSi g 7 a_1 (80 : Int32).toNatClampNeg (fun _ => 0)) (zGz g + 1 + (80 : Int32).toNatClampNeg)) = g_2 at h hR
  obtain ⟨fs_3, q1, q2, h⟩ := h
  refine z_putF C hR hS q1 rfl (ci := 3) rfl in_X3 tyX3 tyX3_ok nmX3 7 (by decide) q1644 (fun _ h => h) rfl rfl rfl ⟨rfl, rfl⟩ q2 dX3_init_30 (fun H locs hR hS => ?_)
  have h := h _ rfl
  generalize zSo g_2 3 a0 (fs_3.set 7 (.ref a_1)) = g_4 at h hR
  refine lv_aload_n C.x C.b dX3_init_33 rfl (lv_at hl 0 rfl) ?_
  refine lv_bipush (v := 80) C.x C.b dX3_init_34 (by decide) ?_
  obtain ⟨q1, q2, q3, h⟩ := h
  refine z_newI C hR hS 8 (by decide) q147 q1 q2 q3 dX3_init_36 (fun a_5 hf H hR hS => ?_)
  have h := h a_5 hf _ rfl
  generalize (zSz (zSi g_4 8 a_5 (80 : Int32).toNatClampNeg (fun _ => 0)) (zGz g_4 + 1 + (80 : Int32).toNatClampNeg)) = g_6 at h hR
  obtain ⟨fs_7, q1, q2, h⟩ := h
  refine z_putF C hR hS q1 rfl (ci := 3) rfl in_X3 tyX3 tyX3_ok nmX3 8 (by decide) q1645 (fun _ h => h) rfl rfl rfl ⟨rfl, rfl⟩ q2 dX3_init_38 (fun H locs hR hS => ?_)
  have h := h _ rfl
  generalize zSo g_6 3 a0 (fs_7.set 8 (.ref a_5)) = g_8 at h hR
  refine lv_aload_n C.x C.b dX3_init_41 rfl (lv_at hl 0 rfl) ?_
  refine lv_bipush (v := 80) C.x C.b dX3_init_42 (by decide) ?_
  obtain ⟨q1, q2, q3, h⟩ := h
  refine z_newI C hR hS 9 (by decide) q147 q1 q2 q3 dX3_init_44 (fun a_9 hf H hR hS => ?_)
  have h := h a_9 hf _ rfl
  generalize (zSz (zSi g_8 9 a_9 (80 : Int32).toNatClampNeg (fun _ => 0)) (zGz g_8 + 1 + (80 : Int32).toNatClampNeg)) = g_10 at h hR
  obtain ⟨fs_11, q1, q2, h⟩ := h
  refine z_putF C hR hS q1 rfl (ci := 3) rfl in_X3 tyX3 tyX3_ok nmX3 9 (by decide) q1646 (fun _ h => h) rfl rfl rfl ⟨rfl, rfl⟩ q2 dX3_init_46 (fun H locs hR hS => ?_)
  have h := h _ rfl
  generalize zSo g_10 3 a0 (fs_11.set 9 (.ref a_9)) = g_12 at h hR
  exact h H locs ls hR hS (lv_sub hl [0] rfl)
set_option maxHeartbeats 4000000 in
theorem bX3_init_49 {X : zX} {d : Nat} {E : zM} {K : Option Value → zG → Prop} {KX : String → zG → Prop} (C : zC X (d + 1) E RX3 cX3_init 1 none "<init>") (hQ : zQ X E K KX) (g : zG) (a0 : Nat) (h : ¬ (80 : Int32) < 0 ∧ (80 : Int32).toNatClampNeg ≤ 100000 ∧ zGz g + 1 + (80 : Int32).toNatClampNeg ≤ zz X ∧ ∀ a_1 : Nat, zFr g a_1 → ∀ g_2 : zG, g_2 = (zSz (zSi g 10 a_1 (80 : Int32).toNatClampNeg (fun _ => 0)) (zGz g + 1 + (80 : Int32).toNatClampNeg)) → ∃ (fs_3 : List Value), zGo g_2 3 a0 = some fs_3 ∧ 10 < fs_3.length ∧ ∀ g_4 : zG, g_4 = zSo g_2 3 a0 (fs_3.set 10 (.ref a_1)) → ¬ (80 : Int32) < 0 ∧ (80 : Int32).toNatClampNeg ≤ 100000 ∧ zGz g_4 + 1 + (80 : Int32).toNatClampNeg ≤ zz X ∧ ∀ a_5 : Nat, zFr g_4 a_5 → ∀ g_6 : zG, g_6 = (zSz (zSi g_4 111 a_5 (80 : Int32).toNatClampNeg (fun _ => 0)) (zGz g_4 + 1 + (80 : Int32).toNatClampNeg)) → ∃ (fs_7 : List Value), zGo g_6 3 a0 = some fs_7 ∧ 11 < fs_7.length ∧ ∀ g_8 : zG, g_8 = zSo g_6 3 a0 (fs_7.set 11 (.ref a_5)) → ¬ (80 : Int32) < 0 ∧ (80 : Int32).toNatClampNeg ≤ 100000 ∧ zGz g_8 + 1 + (80 : Int32).toNatClampNeg ≤ zz X ∧ ∀ a_9 : Nat, zFr g_8 a_9 → ∀ g_10 : zG, g_10 = (zSz (zSi g_8 12 a_9 (80 : Int32).toNatClampNeg (fun _ => 0)) (zGz g_8 + 1 + (80 : Int32).toNatClampNeg)) → ∃ (fs_11 : List Value), zGo g_10 3 a0 = some fs_11 ∧ 12 < fs_11.length ∧ ∀ g_12 : zG, g_12 = zSo g_10 3 a0 (fs_11.set 12 (.ref a_9)) → GW X E 1 g_12 73 [(0, .ref a0)] []) : GW X E 1 g 49 [(0, .ref a0)] [] := by
  intro H locs ls hR hS hl
  refine lv_aload_n C.x C.b dX3_init_49 rfl (lv_at hl 0 rfl) ?_
  refine lv_bipush (v := 80) C.x C.b dX3_init_50 (by decide) ?_
  obtain ⟨q1, q2, q3, h⟩ := h
  refine z_newI C hR hS 10 (by decide) q147 q1 q2 q3 dX3_init_52 (fun a_1 hf H hR hS => ?_)
  have h := h a_1 hf _ rfl
  generalize (zSz (zSi g 10 a_1 (80 : Int32).toNatClampNeg (fun _ => 0)) (zGz g + 1 + (80 : Int32).toNatClampNeg)) = g_2 at h hR
  obtain ⟨fs_3, q1, q2, h⟩ := h
  refine z_putF C hR hS q1 rfl (ci := 3) rfl in_X3 tyX3 tyX3_ok nmX3 10 (by decide) q1647 (fun _ h => h) rfl rfl rfl ⟨rfl, rfl⟩ q2 dX3_init_54 (fun H locs hR hS => ?_)
  have h := h _ rfl
  generalize zSo g_2 3 a0 (fs_3.set 10 (.ref a_1)) = g_4 at h hR
  refine lv_aload_n C.x C.b dX3_init_57 rfl (lv_at hl 0 rfl) ?_
  refine lv_bipush (v := 80) C.x C.b dX3_init_58 (by decide) ?_
  obtain ⟨q1, q2, q3, h⟩ := h
  refine z_newZ C hR hS 111 (by decide) q1743 q1 q2 q3 dX3_init_60 (fun a_5 hf H hR hS => ?_)
  have h := h a_5 hf _ rfl
  generalize (zSz (zSi g_4 111 a_5 (80 : Int32).toNatClampNeg (fun _ => 0)) (zGz g_4 + 1 + (80 : Int32).toNatClampNeg)) = g_6 at h hR
  obtain ⟨fs_7, q1, q2, h⟩ := h
  refine z_putF C hR hS q1 rfl (ci := 3) rfl in_X3 tyX3 tyX3_ok nmX3 11 (by decide) q1648 (fun _ h => h) rfl rfl rfl ⟨rfl, rfl⟩ q2 dX3_init_62 (fun H locs hR hS => ?_)
  have h := h _ rfl
  generalize zSo g_6 3 a0 (fs_7.set 11 (.ref a_5)) = g_8 at h hR
  refine lv_aload_n C.x C.b dX3_init_65 rfl (lv_at hl 0 rfl) ?_
  refine lv_bipush (v := 80) C.x C.b dX3_init_66 (by decide) ?_
  obtain ⟨q1, q2, q3, h⟩ := h
  refine z_newI C hR hS 12 (by decide) q147 q1 q2 q3 dX3_init_68 (fun a_9 hf H hR hS => ?_)
  have h := h a_9 hf _ rfl
  generalize (zSz (zSi g_8 12 a_9 (80 : Int32).toNatClampNeg (fun _ => 0)) (zGz g_8 + 1 + (80 : Int32).toNatClampNeg)) = g_10 at h hR
  obtain ⟨fs_11, q1, q2, h⟩ := h
  refine z_putF C hR hS q1 rfl (ci := 3) rfl in_X3 tyX3 tyX3_ok nmX3 12 (by decide) q1649 (fun _ h => h) rfl rfl rfl ⟨rfl, rfl⟩ q2 dX3_init_70 (fun H locs hR hS => ?_)
  have h := h _ rfl
  generalize zSo g_10 3 a0 (fs_11.set 12 (.ref a_9)) = g_12 at h hR
  exact h H locs ls hR hS (lv_sub hl [0] rfl)
set_option maxHeartbeats 4000000 in
theorem bX3_init_73 {X : zX} {d : Nat} {E : zM} {K : Option Value → zG → Prop} {KX : String → zG → Prop} (C : zC X (d + 1) E RX3 cX3_init 1 none "<init>") (hQ : zQ X E K KX) (g : zG) (a0 : Nat) (h : ¬ (8 : Int32) < 0 ∧ (8 : Int32).toNatClampNeg ≤ 100000 ∧ zGz g + 1 + (8 : Int32).toNatClampNeg ≤ zz X ∧ ∀ a_1 : Nat, zFr g a_1 → ∀ g_2 : zG, g_2 = (zSz (zSi g 14 a_1 (8 : Int32).toNatClampNeg (fun _ => 0)) (zGz g + 1 + (8 : Int32).toNatClampNeg)) → ∃ (fs_3 : List Value), zGo g_2 3 a0 = some fs_3 ∧ 14 < fs_3.length ∧ ∀ g_4 : zG, g_4 = zSo g_2 3 a0 (fs_3.set 14 (.ref a_1)) → ¬ (336 : Int32) < 0 ∧ (336 : Int32).toNatClampNeg ≤ 100000 ∧ zGz g_4 + 1 + (336 : Int32).toNatClampNeg ≤ zz X ∧ ∀ a_5 : Nat, zFr g_4 a_5 → ∀ g_6 : zG, g_6 = (zSz (zSi g_4 16 a_5 (336 : Int32).toNatClampNeg (fun _ => 0)) (zGz g_4 + 1 + (336 : Int32).toNatClampNeg)) → ∃ (fs_7 : List Value), zGo g_6 3 a0 = some fs_7 ∧ 16 < fs_7.length ∧ ∀ g_8 : zG, g_8 = zSo g_6 3 a0 (fs_7.set 16 (.ref a_5)) → GW X E 1 g_8 90 [(0, .ref a0)] []) : GW X E 1 g 73 [(0, .ref a0)] [] := by
  intro H locs ls hR hS hl
  refine lv_aload_n C.x C.b dX3_init_73 rfl (lv_at hl 0 rfl) ?_
  refine lv_bipush (v := 8) C.x C.b dX3_init_74 (by decide) ?_
  obtain ⟨q1, q2, q3, h⟩ := h
  refine z_newI C hR hS 14 (by decide) q147 q1 q2 q3 dX3_init_76 (fun a_1 hf H hR hS => ?_)
  have h := h a_1 hf _ rfl
  generalize (zSz (zSi g 14 a_1 (8 : Int32).toNatClampNeg (fun _ => 0)) (zGz g + 1 + (8 : Int32).toNatClampNeg)) = g_2 at h hR
  obtain ⟨fs_3, q1, q2, h⟩ := h
  refine z_putF C hR hS q1 rfl (ci := 3) rfl in_X3 tyX3 tyX3_ok nmX3 14 (by decide) q1651 (fun _ h => h) rfl rfl rfl ⟨rfl, rfl⟩ q2 dX3_init_78 (fun H locs hR hS => ?_)
  have h := h _ rfl
  generalize zSo g_2 3 a0 (fs_3.set 14 (.ref a_1)) = g_4 at h hR
  refine lv_aload_n C.x C.b dX3_init_81 rfl (lv_at hl 0 rfl) ?_
  refine lv_sipush (v := 336) C.x C.b dX3_init_82 (by decide) ?_
  obtain ⟨q1, q2, q3, h⟩ := h
  refine z_newI C hR hS 16 (by decide) q147 q1 q2 q3 dX3_init_85 (fun a_5 hf H hR hS => ?_)
  have h := h a_5 hf _ rfl
  generalize (zSz (zSi g_4 16 a_5 (336 : Int32).toNatClampNeg (fun _ => 0)) (zGz g_4 + 1 + (336 : Int32).toNatClampNeg)) = g_6 at h hR
  obtain ⟨fs_7, q1, q2, h⟩ := h
  refine z_putF C hR hS q1 rfl (ci := 3) rfl in_X3 tyX3 tyX3_ok nmX3 16 (by decide) q1653 (fun _ h => h) rfl rfl rfl ⟨rfl, rfl⟩ q2 dX3_init_87 (fun H locs hR hS => ?_)
  have h := h _ rfl
  generalize zSo g_6 3 a0 (fs_7.set 16 (.ref a_5)) = g_8 at h hR
  exact h H locs ls hR hS (lv_sub hl [0] rfl)
set_option maxHeartbeats 4000000 in
theorem bX3_init_90 {X : zX} {d : Nat} {E : zM} {K : Option Value → zG → Prop} {KX : String → zG → Prop} (C : zC X (d + 1) E RX3 cX3_init 1 none "<init>") (hQ : zQ X E K KX) (g : zG) (a0 : Nat) (h : ¬ (336 : Int32) < 0 ∧ (336 : Int32).toNatClampNeg ≤ 100000 ∧ zGz g + 1 + (336 : Int32).toNatClampNeg ≤ zz X ∧ ∀ a_1 : Nat, zFr g a_1 → ∀ g_2 : zG, g_2 = (zSz (zSi g 17 a_1 (336 : Int32).toNatClampNeg (fun _ => 0)) (zGz g + 1 + (336 : Int32).toNatClampNeg)) → ∃ (fs_3 : List Value), zGo g_2 3 a0 = some fs_3 ∧ 17 < fs_3.length ∧ ∀ g_4 : zG, g_4 = zSo g_2 3 a0 (fs_3.set 17 (.ref a_1)) → ¬ (336 : Int32) < 0 ∧ (336 : Int32).toNatClampNeg ≤ 100000 ∧ zGz g_4 + 1 + (336 : Int32).toNatClampNeg ≤ zz X ∧ ∀ a_5 : Nat, zFr g_4 a_5 → ∀ g_6 : zG, g_6 = (zSz (zSi g_4 18 a_5 (336 : Int32).toNatClampNeg (fun _ => 0)) (zGz g_4 + 1 + (336 : Int32).toNatClampNeg)) → ∃ (fs_7 : List Value), zGo g_6 3 a0 = some fs_7 ∧ 18 < fs_7.length ∧ ∀ g_8 : zG, g_8 = zSo g_6 3 a0 (fs_7.set 18 (.ref a_5)) → GW X E 1 g_8 108 [(0, .ref a0)] []) : GW X E 1 g 90 [(0, .ref a0)] [] := by
  intro H locs ls hR hS hl
  refine lv_aload_n C.x C.b dX3_init_90 rfl (lv_at hl 0 rfl) ?_
  refine lv_sipush (v := 336) C.x C.b dX3_init_91 (by decide) ?_
  obtain ⟨q1, q2, q3, h⟩ := h
  refine z_newI C hR hS 17 (by decide) q147 q1 q2 q3 dX3_init_94 (fun a_1 hf H hR hS => ?_)
  have h := h a_1 hf _ rfl
  generalize (zSz (zSi g 17 a_1 (336 : Int32).toNatClampNeg (fun _ => 0)) (zGz g + 1 + (336 : Int32).toNatClampNeg)) = g_2 at h hR
  obtain ⟨fs_3, q1, q2, h⟩ := h
  refine z_putF C hR hS q1 rfl (ci := 3) rfl in_X3 tyX3 tyX3_ok nmX3 17 (by decide) q1654 (fun _ h => h) rfl rfl rfl ⟨rfl, rfl⟩ q2 dX3_init_96 (fun H locs hR hS => ?_)
  have h := h _ rfl
  generalize zSo g_2 3 a0 (fs_3.set 17 (.ref a_1)) = g_4 at h hR
  refine lv_aload_n C.x C.b dX3_init_99 rfl (lv_at hl 0 rfl) ?_
  refine lv_sipush (v := 336) C.x C.b dX3_init_100 (by decide) ?_
  obtain ⟨q1, q2, q3, h⟩ := h
  refine z_newI C hR hS 18 (by decide) q147 q1 q2 q3 dX3_init_103 (fun a_5 hf H hR hS => ?_)
  have h := h a_5 hf _ rfl
  generalize (zSz (zSi g_4 18 a_5 (336 : Int32).toNatClampNeg (fun _ => 0)) (zGz g_4 + 1 + (336 : Int32).toNatClampNeg)) = g_6 at h hR
  obtain ⟨fs_7, q1, q2, h⟩ := h
  refine z_putF C hR hS q1 rfl (ci := 3) rfl in_X3 tyX3 tyX3_ok nmX3 18 (by decide) q1655 (fun _ h => h) rfl rfl rfl ⟨rfl, rfl⟩ q2 dX3_init_105 (fun H locs hR hS => ?_)
  have h := h _ rfl
  generalize zSo g_6 3 a0 (fs_7.set 18 (.ref a_5)) = g_8 at h hR
  exact h H locs ls hR hS (lv_sub hl [0] rfl)
set_option maxHeartbeats 4000000 in
theorem bX3_init_108 {X : zX} {d : Nat} {E : zM} {K : Option Value → zG → Prop} {KX : String → zG → Prop} (C : zC X (d + 1) E RX3 cX3_init 1 none "<init>") (hQ : zQ X E K KX) (g : zG) (a0 : Nat) (h : ¬ (336 : Int32) < 0 ∧ (336 : Int32).toNatClampNeg ≤ 100000 ∧ zGz g + 1 + (336 : Int32).toNatClampNeg ≤ zz X ∧ ∀ a_1 : Nat, zFr g a_1 → ∀ g_2 : zG, g_2 = (zSz (zSi g 19 a_1 (336 : Int32).toNatClampNeg (fun _ => 0)) (zGz g + 1 + (336 : Int32).toNatClampNeg)) → ∃ (fs_3 : List Value), zGo g_2 3 a0 = some fs_3 ∧ 19 < fs_3.length ∧ ∀ g_4 : zG, g_4 = zSo g_2 3 a0 (fs_3.set 19 (.ref a_1)) → ¬ (6 : Int32) < 0 ∧ (6 : Int32).toNatClampNeg ≤ 100000 ∧ zGz g_4 + 1 + (6 : Int32).toNatClampNeg ≤ zz X ∧ ∀ a_5 : Nat, zFr g_4 a_5 → ∀ g_6 : zG, g_6 = (zSz (zSi g_4 121 a_5 (6 : Int32).toNatClampNeg (fun _ => 0)) (zGz g_4 + 1 + (6 : Int32).toNatClampNeg)) → ∃ (fs_7 : List Value), zGo g_6 3 a0 = some fs_7 ∧ 21 < fs_7.length ∧ ∀ g_8 : zG, g_8 = zSo g_6 3 a0 (fs_7.set 21 (.ref a_5)) → GW X E 1 g_8 125 [(0, .ref a0)] []) : GW X E 1 g 108 [(0, .ref a0)] [] := by
  intro H locs ls hR hS hl
  refine lv_aload_n C.x C.b dX3_init_108 rfl (lv_at hl 0 rfl) ?_
  refine lv_sipush (v := 336) C.x C.b dX3_init_109 (by decide) ?_
  obtain ⟨q1, q2, q3, h⟩ := h
  refine z_newI C hR hS 19 (by decide) q147 q1 q2 q3 dX3_init_112 (fun a_1 hf H hR hS => ?_)
  have h := h a_1 hf _ rfl
  generalize (zSz (zSi g 19 a_1 (336 : Int32).toNatClampNeg (fun _ => 0)) (zGz g + 1 + (336 : Int32).toNatClampNeg)) = g_2 at h hR
  obtain ⟨fs_3, q1, q2, h⟩ := h
  refine z_putF C hR hS q1 rfl (ci := 3) rfl in_X3 tyX3 tyX3_ok nmX3 19 (by decide) q1656 (fun _ h => h) rfl rfl rfl ⟨rfl, rfl⟩ q2 dX3_init_114 (fun H locs hR hS => ?_)
  have h := h _ rfl
  generalize zSo g_2 3 a0 (fs_3.set 19 (.ref a_1)) = g_4 at h hR
  refine lv_aload_n C.x C.b dX3_init_117 rfl (lv_at hl 0 rfl) ?_
  refine lv_bipush (v := 6) C.x C.b dX3_init_118 (by decide) ?_
  obtain ⟨q1, q2, q3, h⟩ := h
  refine z_newZ C hR hS 121 (by decide) q1743 q1 q2 q3 dX3_init_120 (fun a_5 hf H hR hS => ?_)
  have h := h a_5 hf _ rfl
  generalize (zSz (zSi g_4 121 a_5 (6 : Int32).toNatClampNeg (fun _ => 0)) (zGz g_4 + 1 + (6 : Int32).toNatClampNeg)) = g_6 at h hR
  obtain ⟨fs_7, q1, q2, h⟩ := h
  refine z_putF C hR hS q1 rfl (ci := 3) rfl in_X3 tyX3 tyX3_ok nmX3 21 (by decide) q1658 (fun _ h => h) rfl rfl rfl ⟨rfl, rfl⟩ q2 dX3_init_122 (fun H locs hR hS => ?_)
  have h := h _ rfl
  generalize zSo g_6 3 a0 (fs_7.set 21 (.ref a_5)) = g_8 at h hR
  exact h H locs ls hR hS (lv_sub hl [0] rfl)
set_option maxHeartbeats 4000000 in
theorem bX3_init_125 {X : zX} {d : Nat} {E : zM} {K : Option Value → zG → Prop} {KX : String → zG → Prop} (C : zC X (d + 1) E RX3 cX3_init 1 none "<init>") (hQ : zQ X E K KX) (g : zG) (a0 : Nat) (h : ¬ (6 : Int32) < 0 ∧ (6 : Int32).toNatClampNeg ≤ 100000 ∧ zGz g + 1 + (6 : Int32).toNatClampNeg ≤ zz X ∧ ∀ a_1 : Nat, zFr g a_1 → ∀ g_2 : zG, g_2 = (zSz (zSi g 122 a_1 (6 : Int32).toNatClampNeg (fun _ => 0)) (zGz g + 1 + (6 : Int32).toNatClampNeg)) → ∃ (fs_3 : List Value), zGo g_2 3 a0 = some fs_3 ∧ 22 < fs_3.length ∧ ∀ g_4 : zG, g_4 = zSo g_2 3 a0 (fs_3.set 22 (.ref a_1)) → ¬ (6 : Int32) < 0 ∧ (6 : Int32).toNatClampNeg ≤ 100000 ∧ zGz g_4 + 1 + (6 : Int32).toNatClampNeg ≤ zz X ∧ ∀ a_5 : Nat, zFr g_4 a_5 → ∀ g_6 : zG, g_6 = (zSz (zSi g_4 23 a_5 (6 : Int32).toNatClampNeg (fun _ => 0)) (zGz g_4 + 1 + (6 : Int32).toNatClampNeg)) → ∃ (fs_7 : List Value), zGo g_6 3 a0 = some fs_7 ∧ 23 < fs_7.length ∧ ∀ g_8 : zG, g_8 = zSo g_6 3 a0 (fs_7.set 23 (.ref a_5)) → GW X E 1 g_8 141 [(0, .ref a0)] []) : GW X E 1 g 125 [(0, .ref a0)] [] := by
  intro H locs ls hR hS hl
  refine lv_aload_n C.x C.b dX3_init_125 rfl (lv_at hl 0 rfl) ?_
  refine lv_bipush (v := 6) C.x C.b dX3_init_126 (by decide) ?_
  obtain ⟨q1, q2, q3, h⟩ := h
  refine z_newZ C hR hS 122 (by decide) q1743 q1 q2 q3 dX3_init_128 (fun a_1 hf H hR hS => ?_)
  have h := h a_1 hf _ rfl
  generalize (zSz (zSi g 122 a_1 (6 : Int32).toNatClampNeg (fun _ => 0)) (zGz g + 1 + (6 : Int32).toNatClampNeg)) = g_2 at h hR
  obtain ⟨fs_3, q1, q2, h⟩ := h
  refine z_putF C hR hS q1 rfl (ci := 3) rfl in_X3 tyX3 tyX3_ok nmX3 22 (by decide) q1659 (fun _ h => h) rfl rfl rfl ⟨rfl, rfl⟩ q2 dX3_init_130 (fun H locs hR hS => ?_)
  have h := h _ rfl
  generalize zSo g_2 3 a0 (fs_3.set 22 (.ref a_1)) = g_4 at h hR
  refine lv_aload_n C.x C.b dX3_init_133 rfl (lv_at hl 0 rfl) ?_
  refine lv_bipush (v := 6) C.x C.b dX3_init_134 (by decide) ?_
  obtain ⟨q1, q2, q3, h⟩ := h
  refine z_newI C hR hS 23 (by decide) q147 q1 q2 q3 dX3_init_136 (fun a_5 hf H hR hS => ?_)
  have h := h a_5 hf _ rfl
  generalize (zSz (zSi g_4 23 a_5 (6 : Int32).toNatClampNeg (fun _ => 0)) (zGz g_4 + 1 + (6 : Int32).toNatClampNeg)) = g_6 at h hR
  obtain ⟨fs_7, q1, q2, h⟩ := h
  refine z_putF C hR hS q1 rfl (ci := 3) rfl in_X3 tyX3 tyX3_ok nmX3 23 (by decide) q1660 (fun _ h => h) rfl rfl rfl ⟨rfl, rfl⟩ q2 dX3_init_138 (fun H locs hR hS => ?_)
  have h := h _ rfl
  generalize zSo g_6 3 a0 (fs_7.set 23 (.ref a_5)) = g_8 at h hR
  exact h H locs ls hR hS (lv_sub hl [0] rfl)
set_option maxHeartbeats 4000000 in
theorem bX3_init_141 {X : zX} {d : Nat} {E : zM} {K : Option Value → zG → Prop} {KX : String → zG → Prop} (C : zC X (d + 1) E RX3 cX3_init 1 none "<init>") (hQ : zQ X E K KX) (g : zG) (a0 : Nat) (h : ¬ (6 : Int32) < 0 ∧ (6 : Int32).toNatClampNeg ≤ 100000 ∧ zGz g + 1 + (6 : Int32).toNatClampNeg ≤ zz X ∧ ∀ a_1 : Nat, zFr g a_1 → ∀ g_2 : zG, g_2 = (zSz (zSi g 24 a_1 (6 : Int32).toNatClampNeg (fun _ => 0)) (zGz g + 1 + (6 : Int32).toNatClampNeg)) → ∃ (fs_3 : List Value), zGo g_2 3 a0 = some fs_3 ∧ 24 < fs_3.length ∧ ∀ g_4 : zG, g_4 = zSo g_2 3 a0 (fs_3.set 24 (.ref a_1)) → ¬ (480 : Int32) < 0 ∧ (480 : Int32).toNatClampNeg ≤ 100000 ∧ zGz g_4 + 1 + (480 : Int32).toNatClampNeg ≤ zz X ∧ ∀ a_5 : Nat, zFr g_4 a_5 → ∀ g_6 : zG, g_6 = (zSz (zSi g_4 25 a_5 (480 : Int32).toNatClampNeg (fun _ => 0)) (zGz g_4 + 1 + (480 : Int32).toNatClampNeg)) → ∃ (fs_7 : List Value), zGo g_6 3 a0 = some fs_7 ∧ 25 < fs_7.length ∧ ∀ g_8 : zG, g_8 = zSo g_6 3 a0 (fs_7.set 25 (.ref a_5)) → GW X E 1 g_8 158 [(0, .ref a0)] []) : GW X E 1 g 141 [(0, .ref a0)] [] := by
  intro H locs ls hR hS hl
  refine lv_aload_n C.x C.b dX3_init_141 rfl (lv_at hl 0 rfl) ?_
  refine lv_bipush (v := 6) C.x C.b dX3_init_142 (by decide) ?_
  obtain ⟨q1, q2, q3, h⟩ := h
  refine z_newI C hR hS 24 (by decide) q147 q1 q2 q3 dX3_init_144 (fun a_1 hf H hR hS => ?_)
  have h := h a_1 hf _ rfl
  generalize (zSz (zSi g 24 a_1 (6 : Int32).toNatClampNeg (fun _ => 0)) (zGz g + 1 + (6 : Int32).toNatClampNeg)) = g_2 at h hR
  obtain ⟨fs_3, q1, q2, h⟩ := h
  refine z_putF C hR hS q1 rfl (ci := 3) rfl in_X3 tyX3 tyX3_ok nmX3 24 (by decide) q1661 (fun _ h => h) rfl rfl rfl ⟨rfl, rfl⟩ q2 dX3_init_146 (fun H locs hR hS => ?_)
  have h := h _ rfl
  generalize zSo g_2 3 a0 (fs_3.set 24 (.ref a_1)) = g_4 at h hR
  refine lv_aload_n C.x C.b dX3_init_149 rfl (lv_at hl 0 rfl) ?_
  refine lv_sipush (v := 480) C.x C.b dX3_init_150 (by decide) ?_
  obtain ⟨q1, q2, q3, h⟩ := h
  refine z_newI C hR hS 25 (by decide) q147 q1 q2 q3 dX3_init_153 (fun a_5 hf H hR hS => ?_)
  have h := h a_5 hf _ rfl
  generalize (zSz (zSi g_4 25 a_5 (480 : Int32).toNatClampNeg (fun _ => 0)) (zGz g_4 + 1 + (480 : Int32).toNatClampNeg)) = g_6 at h hR
  obtain ⟨fs_7, q1, q2, h⟩ := h
  refine z_putF C hR hS q1 rfl (ci := 3) rfl in_X3 tyX3 tyX3_ok nmX3 25 (by decide) q1662 (fun _ h => h) rfl rfl rfl ⟨rfl, rfl⟩ q2 dX3_init_155 (fun H locs hR hS => ?_)
  have h := h _ rfl
  generalize zSo g_6 3 a0 (fs_7.set 25 (.ref a_5)) = g_8 at h hR
  exact h H locs ls hR hS (lv_sub hl [0] rfl)
set_option maxHeartbeats 4000000 in
theorem bX3_init_158 {X : zX} {d : Nat} {E : zM} {K : Option Value → zG → Prop} {KX : String → zG → Prop} (C : zC X (d + 1) E RX3 cX3_init 1 none "<init>") (hQ : zQ X E K KX) (g : zG) (a0 : Nat) (h : ¬ (480 : Int32) < 0 ∧ (480 : Int32).toNatClampNeg ≤ 100000 ∧ zGz g + 1 + (480 : Int32).toNatClampNeg ≤ zz X ∧ ∀ a_1 : Nat, zFr g a_1 → ∀ g_2 : zG, g_2 = (zSz (zSi g 26 a_1 (480 : Int32).toNatClampNeg (fun _ => 0)) (zGz g + 1 + (480 : Int32).toNatClampNeg)) → ∃ (fs_3 : List Value), zGo g_2 3 a0 = some fs_3 ∧ 26 < fs_3.length ∧ ∀ g_4 : zG, g_4 = zSo g_2 3 a0 (fs_3.set 26 (.ref a_1)) → ¬ (80 : Int32) < 0 ∧ (80 : Int32).toNatClampNeg ≤ 100000 ∧ zGz g_4 + 1 + (80 : Int32).toNatClampNeg ≤ zz X ∧ ∀ a_5 : Nat, zFr g_4 a_5 → ∀ g_6 : zG, g_6 = (zSz (zSi g_4 28 a_5 (80 : Int32).toNatClampNeg (fun _ => 0)) (zGz g_4 + 1 + (80 : Int32).toNatClampNeg)) → ∃ (fs_7 : List Value), zGo g_6 3 a0 = some fs_7 ∧ 28 < fs_7.length ∧ ∀ g_8 : zG, g_8 = zSo g_6 3 a0 (fs_7.set 28 (.ref a_5)) → GW X E 1 g_8 175 [(0, .ref a0)] []) : GW X E 1 g 158 [(0, .ref a0)] [] := by
  intro H locs ls hR hS hl
  refine lv_aload_n C.x C.b dX3_init_158 rfl (lv_at hl 0 rfl) ?_
  refine lv_sipush (v := 480) C.x C.b dX3_init_159 (by decide) ?_
  obtain ⟨q1, q2, q3, h⟩ := h
  refine z_newI C hR hS 26 (by decide) q147 q1 q2 q3 dX3_init_162 (fun a_1 hf H hR hS => ?_)
  have h := h a_1 hf _ rfl
  generalize (zSz (zSi g 26 a_1 (480 : Int32).toNatClampNeg (fun _ => 0)) (zGz g + 1 + (480 : Int32).toNatClampNeg)) = g_2 at h hR
  obtain ⟨fs_3, q1, q2, h⟩ := h
  refine z_putF C hR hS q1 rfl (ci := 3) rfl in_X3 tyX3 tyX3_ok nmX3 26 (by decide) q1663 (fun _ h => h) rfl rfl rfl ⟨rfl, rfl⟩ q2 dX3_init_164 (fun H locs hR hS => ?_)
  have h := h _ rfl
  generalize zSo g_2 3 a0 (fs_3.set 26 (.ref a_1)) = g_4 at h hR
  refine lv_aload_n C.x C.b dX3_init_167 rfl (lv_at hl 0 rfl) ?_
  refine lv_bipush (v := 80) C.x C.b dX3_init_168 (by decide) ?_
  obtain ⟨q1, q2, q3, h⟩ := h
  refine z_newI C hR hS 28 (by decide) q147 q1 q2 q3 dX3_init_170 (fun a_5 hf H hR hS => ?_)
  have h := h a_5 hf _ rfl
  generalize (zSz (zSi g_4 28 a_5 (80 : Int32).toNatClampNeg (fun _ => 0)) (zGz g_4 + 1 + (80 : Int32).toNatClampNeg)) = g_6 at h hR
  obtain ⟨fs_7, q1, q2, h⟩ := h
  refine z_putF C hR hS q1 rfl (ci := 3) rfl in_X3 tyX3 tyX3_ok nmX3 28 (by decide) q1665 (fun _ h => h) rfl rfl rfl ⟨rfl, rfl⟩ q2 dX3_init_172 (fun H locs hR hS => ?_)
  have h := h _ rfl
  generalize zSo g_6 3 a0 (fs_7.set 28 (.ref a_5)) = g_8 at h hR
  exact h H locs ls hR hS (lv_sub hl [0] rfl)
set_option maxHeartbeats 4000000 in
theorem bX3_init_175 {X : zX} {d : Nat} {E : zM} {K : Option Value → zG → Prop} {KX : String → zG → Prop} (C : zC X (d + 1) E RX3 cX3_init 1 none "<init>") (hQ : zQ X E K KX) (g : zG) (a0 : Nat) (h : ¬ (80 : Int32) < 0 ∧ (80 : Int32).toNatClampNeg ≤ 100000 ∧ zGz g + 1 + (80 : Int32).toNatClampNeg ≤ zz X ∧ ∀ a_1 : Nat, zFr g a_1 → ∀ g_2 : zG, g_2 = (zSz (zSi g 30 a_1 (80 : Int32).toNatClampNeg (fun _ => 0)) (zGz g + 1 + (80 : Int32).toNatClampNeg)) → ∃ (fs_3 : List Value), zGo g_2 3 a0 = some fs_3 ∧ 30 < fs_3.length ∧ ∀ g_4 : zG, g_4 = zSo g_2 3 a0 (fs_3.set 30 (.ref a_1)) → ¬ (1920 : Int32) < 0 ∧ (1920 : Int32).toNatClampNeg ≤ 100000 ∧ zGz g_4 + 1 + (1920 : Int32).toNatClampNeg ≤ zz X ∧ ∀ a_5 : Nat, zFr g_4 a_5 → ∀ g_6 : zG, g_6 = (zSz (zSi g_4 32 a_5 (1920 : Int32).toNatClampNeg (fun _ => 0)) (zGz g_4 + 1 + (1920 : Int32).toNatClampNeg)) → ∃ (fs_7 : List Value), zGo g_6 3 a0 = some fs_7 ∧ 32 < fs_7.length ∧ ∀ g_8 : zG, g_8 = zSo g_6 3 a0 (fs_7.set 32 (.ref a_5)) → GW X E 1 g_8 192 [(0, .ref a0)] []) : GW X E 1 g 175 [(0, .ref a0)] [] := by
  intro H locs ls hR hS hl
  refine lv_aload_n C.x C.b dX3_init_175 rfl (lv_at hl 0 rfl) ?_
  refine lv_bipush (v := 80) C.x C.b dX3_init_176 (by decide) ?_
  obtain ⟨q1, q2, q3, h⟩ := h
  refine z_newI C hR hS 30 (by decide) q147 q1 q2 q3 dX3_init_178 (fun a_1 hf H hR hS => ?_)
  have h := h a_1 hf _ rfl
  generalize (zSz (zSi g 30 a_1 (80 : Int32).toNatClampNeg (fun _ => 0)) (zGz g + 1 + (80 : Int32).toNatClampNeg)) = g_2 at h hR
  obtain ⟨fs_3, q1, q2, h⟩ := h
  refine z_putF C hR hS q1 rfl (ci := 3) rfl in_X3 tyX3 tyX3_ok nmX3 30 (by decide) q1667 (fun _ h => h) rfl rfl rfl ⟨rfl, rfl⟩ q2 dX3_init_180 (fun H locs hR hS => ?_)
  have h := h _ rfl
  generalize zSo g_2 3 a0 (fs_3.set 30 (.ref a_1)) = g_4 at h hR
  refine lv_aload_n C.x C.b dX3_init_183 rfl (lv_at hl 0 rfl) ?_
  refine lv_sipush (v := 1920) C.x C.b dX3_init_184 (by decide) ?_
  obtain ⟨q1, q2, q3, h⟩ := h
  refine z_newI C hR hS 32 (by decide) q147 q1 q2 q3 dX3_init_187 (fun a_5 hf H hR hS => ?_)
  have h := h a_5 hf _ rfl
  generalize (zSz (zSi g_4 32 a_5 (1920 : Int32).toNatClampNeg (fun _ => 0)) (zGz g_4 + 1 + (1920 : Int32).toNatClampNeg)) = g_6 at h hR
  obtain ⟨fs_7, q1, q2, h⟩ := h
  refine z_putF C hR hS q1 rfl (ci := 3) rfl in_X3 tyX3 tyX3_ok nmX3 32 (by decide) q1669 (fun _ h => h) rfl rfl rfl ⟨rfl, rfl⟩ q2 dX3_init_189 (fun H locs hR hS => ?_)
  have h := h _ rfl
  generalize zSo g_6 3 a0 (fs_7.set 32 (.ref a_5)) = g_8 at h hR
  exact h H locs ls hR hS (lv_sub hl [0] rfl)
set_option maxHeartbeats 4000000 in
theorem bX3_init_192 {X : zX} {d : Nat} {E : zM} {K : Option Value → zG → Prop} {KX : String → zG → Prop} (C : zC X (d + 1) E RX3 cX3_init 1 none "<init>") (hQ : zQ X E K KX) (g : zG) (a0 : Nat) (h : ¬ (80 : Int32) < 0 ∧ (80 : Int32).toNatClampNeg ≤ 100000 ∧ zGz g + 1 + (80 : Int32).toNatClampNeg ≤ zz X ∧ ∀ a_1 : Nat, zFr g a_1 → ∀ g_2 : zG, g_2 = (zSz (zSi g 33 a_1 (80 : Int32).toNatClampNeg (fun _ => 0)) (zGz g + 1 + (80 : Int32).toNatClampNeg)) → ∃ (fs_3 : List Value), zGo g_2 3 a0 = some fs_3 ∧ 33 < fs_3.length ∧ ∀ g_4 : zG, g_4 = zSo g_2 3 a0 (fs_3.set 33 (.ref a_1)) → K none g_4) : GW X E 1 g 192 [(0, .ref a0)] [] := by
  intro H locs ls hR hS hl
  refine lv_aload_n C.x C.b dX3_init_192 rfl (lv_at hl 0 rfl) ?_
  refine lv_bipush (v := 80) C.x C.b dX3_init_193 (by decide) ?_
  obtain ⟨q1, q2, q3, h⟩ := h
  refine z_newI C hR hS 33 (by decide) q147 q1 q2 q3 dX3_init_195 (fun a_1 hf H hR hS => ?_)
  have h := h a_1 hf _ rfl
  generalize (zSz (zSi g 33 a_1 (80 : Int32).toNatClampNeg (fun _ => 0)) (zGz g + 1 + (80 : Int32).toNatClampNeg)) = g_2 at h hR
  obtain ⟨fs_3, q1, q2, h⟩ := h
  refine z_putF C hR hS q1 rfl (ci := 3) rfl in_X3 tyX3 tyX3_ok nmX3 33 (by decide) q1670 (fun _ h => h) rfl rfl rfl ⟨rfl, rfl⟩ q2 dX3_init_197 (fun H locs hR hS => ?_)
  have h := h _ rfl
  generalize zSo g_2 3 a0 (fs_3.set 33 (.ref a_1)) = g_4 at h hR
  exact z_vret C hQ dX3_init_200 h H locs ls hR hS hl
set_option maxHeartbeats 4000000 in
theorem mX3_init {X : zX} {d : Nat} {g : zG} {K : Option Value → zG → Prop} {KX : String → zG → Prop} (hok : zOk X) (a0 : Nat) (h : ∀ E : zM, zC X (d + 1) E RX3 cX3_init 1 none "<init>" → zQ X E K KX → ¬ (4 : Int32) < 0 ∧ (4 : Int32).toNatClampNeg ≤ 100000 ∧ zGz g + 1 + (4 : Int32).toNatClampNeg ≤ zz X ∧ ∀ a_1 : Nat, zFr g a_1 → ∀ g_2 : zG, g_2 = (zSz (zSi g 0 a_1 (4 : Int32).toNatClampNeg (fun _ => 0)) (zGz g + 1 + (4 : Int32).toNatClampNeg)) → ∃ (fs_3 : List Value), zGo g_2 3 a0 = some fs_3 ∧ 0 < fs_3.length ∧ ∀ g_4 : zG, g_4 = zSo g_2 3 a0 (fs_3.set 0 (.ref a_1)) → ∃ (fs_5 : List Value), zGo g_4 3 a0 = some fs_5 ∧ 1 < fs_5.length ∧ ∀ g_6 : zG, g_6 = zSo g_4 3 a0 (fs_5.set 1 (.int 50)) → ¬ (80 : Int32) < 0 ∧ (80 : Int32).toNatClampNeg ≤ 100000 ∧ zGz g_6 + 1 + (80 : Int32).toNatClampNeg ≤ zz X ∧ ∀ a_7 : Nat, zFr g_6 a_7 → ∀ g_8 : zG, g_8 = (zSz (zSi g_6 6 a_7 (80 : Int32).toNatClampNeg (fun _ => 0)) (zGz g_6 + 1 + (80 : Int32).toNatClampNeg)) → ∃ (fs_9 : List Value), zGo g_8 3 a0 = some fs_9 ∧ 6 < fs_9.length ∧ ∀ g_10 : zG, g_10 = zSo g_8 3 a0 (fs_9.set 6 (.ref a_7)) → GW X E 1 g_10 25 [(0, .ref a0)] []) : zCal X (d + 1) yX3_init wX3_init [.ref a0] g K KX := by
  refine z_enter hok pn_X3 (Nat.le_of_ble_eq_true rfl) (fun E C hQ => ?_)
  have C : zC X (d + 1) E RX3 cX3_init 1 none "<init>" := C
  have h := h E C hQ
  show GW X E 1 g 0 [(0, .ref a0)] []
  intro H locs ls hR hS hl
  refine lv_aload_n C.x C.b dX3_init_0 rfl (lv_at hl 0 rfl) ?_
  refine z_objInit C hl q1636 (Nat.le_of_ble_eq_true rfl) dX3_init_1 ?_
  refine lv_aload_n C.x C.b dX3_init_4 rfl (lv_at hl 0 rfl) ?_
  refine lv_iconst (v := 4) C.x C.b dX3_init_5 (by decide) ?_
  obtain ⟨q1, q2, q3, h⟩ := h
  refine z_newI C hR hS 0 (by decide) q147 q1 q2 q3 dX3_init_6 (fun a_1 hf H hR hS => ?_)
  have h := h a_1 hf _ rfl
  generalize (zSz (zSi g 0 a_1 (4 : Int32).toNatClampNeg (fun _ => 0)) (zGz g + 1 + (4 : Int32).toNatClampNeg)) = g_2 at h hR
  obtain ⟨fs_3, q1, q2, h⟩ := h
  refine z_putF C hR hS q1 rfl (ci := 3) rfl in_X3 tyX3 tyX3_ok nmX3 0 (by decide) q1637 (fun _ h => h) rfl rfl rfl ⟨rfl, rfl⟩ q2 dX3_init_8 (fun H locs hR hS => ?_)
  have h := h _ rfl
  generalize zSo g_2 3 a0 (fs_3.set 0 (.ref a_1)) = g_4 at h hR
  refine lv_aload_n C.x C.b dX3_init_11 rfl (lv_at hl 0 rfl) ?_
  refine lv_bipush (v := 50) C.x C.b dX3_init_12 (by decide) ?_
  obtain ⟨fs_5, q1, q2, h⟩ := h
  refine z_put C hR hS q1 rfl (ci := 3) rfl in_X3 tyX3 tyX3_ok nmX3 1 (by decide) q1638 (fun _ h => h) rfl ⟨rfl, rfl⟩ q2 dX3_init_14 (fun H locs hR hS => ?_)
  have h := h _ rfl
  generalize zSo g_4 3 a0 (fs_5.set 1 (.int 50)) = g_6 at h hR
  refine lv_aload_n C.x C.b dX3_init_17 rfl (lv_at hl 0 rfl) ?_
  refine lv_bipush (v := 80) C.x C.b dX3_init_18 (by decide) ?_
  obtain ⟨q1, q2, q3, h⟩ := h
  refine z_newI C hR hS 6 (by decide) q147 q1 q2 q3 dX3_init_20 (fun a_7 hf H hR hS => ?_)
  have h := h a_7 hf _ rfl
  generalize (zSz (zSi g_6 6 a_7 (80 : Int32).toNatClampNeg (fun _ => 0)) (zGz g_6 + 1 + (80 : Int32).toNatClampNeg)) = g_8 at h hR
  obtain ⟨fs_9, q1, q2, h⟩ := h
  refine z_putF C hR hS q1 rfl (ci := 3) rfl in_X3 tyX3 tyX3_ok nmX3 6 (by decide) q1643 (fun _ h => h) rfl rfl rfl ⟨rfl, rfl⟩ q2 dX3_init_22 (fun H locs hR hS => ?_)
  have h := h _ rfl
  generalize zSo g_8 3 a0 (fs_9.set 6 (.ref a_7)) = g_10 at h hR
  exact h H locs ls hR hS (lv_sub hl [0] rfl)
