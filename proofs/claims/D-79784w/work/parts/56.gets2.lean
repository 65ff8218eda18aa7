set_option maxRecDepth 100000
section GTT
variable {X : zX} {d : Nat} {g : zG} {K : Option Value → zG → Prop} {KX : String → zG → Prop} {m : Nat} {fi : Nat → Int32} {ad : Nat → Nat} {fa : Nat → Nat → Int32}
theorem mp_goes2 (hok : zOk X) (hM : zMd g m fi ad fa) {a b c : Int32}
    (h1 : zth a b c = 0 → ∀ g' : zG, zMd g' m (va_up fi 34 0) ad fa → zNm g g' → K (some (.int 1)) g')
    (h0 : zth a b c ≠ 0 → ∀ g' : zG, zMd g' m (va_up fi 34 (zth a b c)) ad fa → zNm g g' → K (some (.int 0)) g') : zCal X d yX3_goes wX3_goes [.ref m, .int a, .int b, .int c] g K KX := by
  refine mp_goes hok hM (fun g' a1 a2 => ?_)
  by_cases z : zth a b c = 0
  · rw [if_pos z]
    rw [z] at a1
    exact h1 z g' a1 a2
  · rw [if_neg z]
    exact h0 z g' a1 a2
theorem mp_tells (hok : zOk X) (hM : zMd g m fi ad fa) {v : Int32} (hK : ∀ g' : zG, zMd g' m (va_up fi 34 0) ad fa → zNm g g' → K (some (.int v)) g') : zCal X d yX3_tells wX3_tells [.ref m, .int v] g K KX :=
  mX3_tells hok m v ⟨_, hM.1, by simp [zMf], fun g2 e2 => hK g2 (hM.si e2 (by decide)) (zNm.si e2)⟩
theorem mp_events (hok : zOk X) (hM : zMd g m fi ad fa) (hK : ∀ g' : zG, zMd g' m (va_up fi 34 0) ad fa → zNm g g' → K (some (.int (fi 3))) g') : zCal X (d + 1) yX3_events wX3_events [.ref m] g K KX :=
  mX3_events hok m ⟨_, _, hM.1, rfl, hM.is, mp_tells hok hM (fun g2 a1 a2 => ⟨_, rfl, hK g2 a1 a2⟩)⟩
theorem mp_dropped (hok : zOk X) (hM : zMd g m fi ad fa) (hK : ∀ g' : zG, zMd g' m (va_up fi 34 0) ad fa → zNm g g' → K (some (.int (fi 4))) g') : zCal X (d + 1) yX3_dropped wX3_dropped [.ref m] g K KX :=
  mX3_dropped hok m ⟨_, _, hM.1, rfl, hM.is, mp_tells hok hM (fun g2 a1 a2 => ⟨_, rfl, hK g2 a1 a2⟩)⟩
theorem mp_present (hok : zOk X) (hM : zMd g m fi ad fa) (hK : ∀ g' : zG, zMd g' m (va_up fi 34 0) ad fa → zNm g g' → K (some (.int (fi 5))) g') : zCal X (d + 1) yX3_present wX3_present [.ref m] g K KX :=
  mX3_present hok m ⟨_, _, hM.1, rfl, hM.is, mp_tells hok hM (fun g2 a1 a2 => ⟨_, rfl, hK g2 a1 a2⟩)⟩
theorem mp_scrap (hok : zOk X) (hM : zMd g m fi ad fa) (hK : ∀ g' : zG, zMd g' m (va_up (va_up (va_up fi 13 0) 15 0) 34 0) ad fa → zNm g g' → K (some (.int (fi 13))) g') : zCal X (d + 1) yX3_scrap wX3_scrap [.ref m] g K KX :=
  mX3_scrap hok m ⟨_, _, hM.1, rfl, _, hM.1, by simp [zMf], fun g2 e2 => ⟨_, (hM.si e2 (by decide)).1, by simp [zMf], fun g3 e3 => ⟨((hM.si e2 (by decide)).si e3 (by decide)).is, mp_tells hok ((hM.si e2 (by decide)).si e3 (by decide)) (fun g4 a1 a2 => ⟨_, rfl, hK g4 a1 (((zNm.si e2).trans (zNm.si e3)).trans a2)⟩)⟩⟩⟩
theorem mp_isBound (hok : zOk X) {v : Int32} (hK : K (some (.int (zIn v (-1) 1000))) g) : zCal X (d + 1) yX3_isBound wX3_isBound [.int v] g K KX := mX3_isBound hok v (mp_in hok ⟨_, rfl, zIn_b _ _ _, zIn_b _ _ _, hK⟩)
theorem mp_isAnswer (hok : zOk X) {v : Int32} (hK : K (some (.int (zIn v 0 2))) g) : zCal X (d + 1) yX3_isAnswer wX3_isAnswer [.int v] g K KX := mX3_isAnswer hok v (mp_in hok ⟨_, rfl, zIn_b _ _ _, zIn_b _ _ _, hK⟩)
theorem mp_isEvent (hok : zOk X) (hM : zMd g m fi ad fa) {v : Int32} (hK : K (some (.int (zIn v 0 (fi 3 - 1)))) g) : zCal X (d + 1) yX3_isEvent wX3_isEvent [.ref m, .int v] g K KX := mX3_isEvent hok m v ⟨_, _, hM.1, rfl, mp_in hok ⟨_, rfl, zIn_b _ _ _, zIn_b _ _ _, hK⟩⟩
theorem mp_isMonitor (hok : zOk X) (hM : zMd g m fi ad fa) {v : Int32} (hK : K (some (.int (zIn v 0 (fi 20 - 1)))) g) : zCal X (d + 1) yX3_isMonitor wX3_isMonitor [.ref m, .int v] g K KX := mX3_isMonitor hok m v ⟨_, _, hM.1, rfl, mp_in hok ⟨_, rfl, zIn_b _ _ _, zIn_b _ _ _, hK⟩⟩
end GTT
