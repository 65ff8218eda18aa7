set_option maxRecDepth 100000
theorem zex2 : (vx_atS RX1 296 RJ12 ["java/lang/RuntimeException", "java/lang/Exception"]).all (fun w => zgo w && zps.any (fun i => decide (lw_tbl[i]? = some w))) = true := by decide +kernel
theorem zex3 : (vx_atS RX1 301 RJ13 ["java/lang/RuntimeException", "java/lang/Exception"]).all (fun w => zgo w && zps.any (fun i => decide (lw_tbl[i]? = some w))) = true := by decide +kernel
theorem zgx1 : (Cond.classLink RX1 285 RJ9 :: Cond.initialized RJ9 :: vx_atS RX1 289 RJ9 ["java/lang/RuntimeException", "java/lang/Exception"]).all vx_ot = true := by decide +kernel
theorem zgx2 : (Cond.classLink RX1 292 RJ12 :: Cond.initialized RJ12 :: vx_atS RX1 296 RJ12 ["java/lang/RuntimeException", "java/lang/Exception"]).all vx_ot = true := by decide +kernel
theorem zgx3 : (Cond.classLink RX1 297 RJ13 :: Cond.initialized RJ13 :: vx_atS RX1 301 RJ13 ["java/lang/RuntimeException", "java/lang/Exception"]).all vx_ot = true := by decide +kernel
section ZCK
variable {X : zX} {d : Nat} {g : zG} {K : Option Value → zG → Prop} {KX : String → zG → Prop}
abbrev wX1_place : List Cond := ws_ yX1_place cX1_place 1 none
abbrev wX1_check : List Cond := ws_ yX1_check cX1_check 1 none
abbrev wX1_allow : List Cond := ws_ yX1_allow cX1_allow 1 none
theorem sp_place (hok : zOk X) {x : Int32} (h1 : ¬ x = 0 → K none g) (h0 : x = 0 → zGz g + 7 ≤ zz X ∧ KX RJ9 (zSz g (zGz g + 7))) : zCal X (d + 6) yX1_place wX1_place [.int x] g K KX := by
  refine z_enter hok pn_X1 (Nat.le_of_ble_eq_true rfl) (fun E C hQ => ?_)
  have C : zC X (d + 6) E RX1 cX1_place 1 none "place" := C
  show GW X E 1 g 0 [(0, .int x)] []
  intro H locs ls hR hS hl
  refine lv_iload_n C.x C.b dX1_place_0 rfl (lv_at hl 0 rfl) ?_
  refine lv_if_ne (tgt := 15) C.x C.b dX1_place_1 (by decide) (fun c => ?_) (fun c => ?_)
  · exact z_vret C hQ dX1_place_15 (h1 c) H locs ls hR hS hl
  · obtain ⟨a, ha⟩ := C.st.2.2.2.2.2.2.2.2.2.1
    exact z_throw C hQ hR hS hl (by decide +kernel) (by decide +kernel) (by decide) q707 q86 ha zps zex1 zgx1 dX1_place_4 dX1_place_7 dX1_place_8 dX1_place_11 dX1_place_14 (Nat.le_of_ble_eq_true rfl) (h0 c).1 (h0 c).2
theorem sp_check (hok : zOk X) {x : Int32} (h1 : ¬ x = 0 → K none g) (h0 : x = 0 → zGz g + 7 ≤ zz X ∧ KX RJ12 (zSz g (zGz g + 7))) : zCal X (d + 6) yX1_check wX1_check [.int x] g K KX := by
  refine z_enter hok pn_X1 (Nat.le_of_ble_eq_true rfl) (fun E C hQ => ?_)
  have C : zC X (d + 6) E RX1 cX1_check 1 none "check" := C
  show GW X E 1 g 0 [(0, .int x)] []
  intro H locs ls hR hS hl
  refine lv_iload_n C.x C.b dX1_check_0 rfl (lv_at hl 0 rfl) ?_
  refine lv_if_ne (tgt := 15) C.x C.b dX1_check_1 (by decide) (fun c => ?_) (fun c => ?_)
  · exact z_vret C hQ dX1_check_15 (h1 c) H locs ls hR hS hl
  · obtain ⟨a, ha⟩ := C.st.2.2.2.2.2.2.2.2.2.2.1
    exact z_throw C hQ hR hS hl (by decide +kernel) (by decide +kernel) (by decide) q723 q89 ha zps zex2 zgx2 dX1_check_4 dX1_check_7 dX1_check_8 dX1_check_11 dX1_check_14 (Nat.le_of_ble_eq_true rfl) (h0 c).1 (h0 c).2
theorem sp_allow (hok : zOk X) {x : Int32} (h1 : ¬ x = 0 → K none g) (h0 : x = 0 → zGz g + 7 ≤ zz X ∧ KX RJ13 (zSz g (zGz g + 7))) : zCal X (d + 6) yX1_allow wX1_allow [.int x] g K KX := by
  refine z_enter hok pn_X1 (Nat.le_of_ble_eq_true rfl) (fun E C hQ => ?_)
  have C : zC X (d + 6) E RX1 cX1_allow 1 none "allow" := C
  show GW X E 1 g 0 [(0, .int x)] []
  intro H locs ls hR hS hl
  refine lv_iload_n C.x C.b dX1_allow_0 rfl (lv_at hl 0 rfl) ?_
  refine lv_if_ne (tgt := 15) C.x C.b dX1_allow_1 (by decide) (fun c => ?_) (fun c => ?_)
  · exact z_vret C hQ dX1_allow_15 (h1 c) H locs ls hR hS hl
  · obtain ⟨a, ha⟩ := C.st.2.2.2.2.2.2.2.2.2.2.2
    exact z_throw C hQ hR hS hl (by decide +kernel) (by decide +kernel) (by decide) q761 q90 ha zps zex3 zgx3 dX1_allow_4 dX1_allow_7 dX1_allow_8 dX1_allow_11 dX1_allow_14 (Nat.le_of_ble_eq_true rfl) (h0 c).1 (h0 c).2
end ZCK
