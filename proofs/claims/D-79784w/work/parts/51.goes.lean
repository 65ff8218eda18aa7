set_option maxRecDepth 100000
/-- which exception is thrown -/
def zth (a b c : Int32) : Int32 := if a = 0 then 1 else if b = 0 then 2 else if c = 0 then 3 else 0
section GOS
variable {X : zX} {d : Nat} {g : zG} {K : Option Value → zG → Prop} {KX : String → zG → Prop} {m : Nat} {fi : Nat → Int32} {ad : Nat → Nat} {fa : Nat → Nat → Int32}
theorem mp_goes (hok : zOk X) (hM : zMd g m fi ad fa) {a b c : Int32} (hK : ∀ g' : zG, zMd g' m (va_up fi 34 (zth a b c)) ad fa → zNm g g' → K (some (.int (if zth a b c = 0 then 1 else 0))) g') : zCal X d yX3_goes wX3_goes [.ref m, .int a, .int b, .int c] g K KX := by
  refine mX3_goes hok m a b c ⟨fun h1 => ⟨fun h2 => ⟨fun h3 => ⟨_, hM.1, by simp [zMf], fun g2 e2 => ?_⟩, fun h3 => ⟨_, hM.1, by simp [zMf], fun g2 e2 => ?_⟩⟩, fun h2 => ⟨_, hM.1, by simp [zMf], fun g2 e2 => ?_⟩⟩, fun h1 => ⟨_, hM.1, by simp [zMf], fun g2 e2 => ?_⟩⟩
  · have hM2 := hM.si e2 (by decide)
    have hz : zth a b c = 0 := by
      unfold zth
      rw [if_neg h1, if_neg h2, if_neg h3]
    have := hK g2 (by rw [hz]; exact hM2) (zNm.si e2)
    rw [hz] at this
    exact ⟨_, _, hM2.1, rfl, fun z => absurd rfl z, fun _ => this⟩
  · have hM2 := hM.si e2 (by decide)
    have hz : zth a b c = 3 := by
      unfold zth
      rw [if_neg h1, if_neg h2, if_pos h3]
    have := hK g2 (by rw [hz]; exact hM2) (zNm.si e2)
    rw [hz] at this
    exact ⟨_, _, hM2.1, rfl, fun _ => this, fun z => absurd (show (3 : Int32) = 0 from z) (by decide)⟩
  · have hM2 := hM.si e2 (by decide)
    have hz : zth a b c = 2 := by
      unfold zth
      rw [if_neg h1, if_pos h2]
    have := hK g2 (by rw [hz]; exact hM2) (zNm.si e2)
    rw [hz] at this
    exact ⟨_, _, hM2.1, rfl, fun _ => this, fun z => absurd (show (2 : Int32) = 0 from z) (by decide)⟩
  · have hM2 := hM.si e2 (by decide)
    have hz : zth a b c = 1 := by
      unfold zth
      rw [if_pos h1]
    have := hK g2 (by rw [hz]; exact hM2) (zNm.si e2)
    rw [hz] at this
    exact ⟨_, _, hM2.1, rfl, fun _ => this, fun z => absurd (show (1 : Int32) = 0 from z) (by decide)⟩
/-- in a range -/
def zIn (v a b : Int32) : Int32 := if v < a then 0 else if b < v then 0 else 1
theorem zIn_b (v a b : Int32) : zbo (zIn v a b) := by
  unfold zIn
  split
  · exact Or.inl rfl
  · split
    · exact Or.inl rfl
    · exact Or.inr rfl
theorem mp_in (hok : zOk X) {v a b : Int32} (hK : K (some (.int (zIn v a b))) g) : zCal X d yX3_in wX3_in [.int v, .int a, .int b] g K KX := by
  unfold zIn at hK
  refine mX3_in hok v a b ⟨fun h => ?_, fun h => ⟨fun h2 => ?_, fun h2 => ?_⟩⟩
  · rw [if_pos h] at hK; exact hK
  · rw [if_neg h, if_pos h2] at hK; exact hK
  · rw [if_neg h, if_neg h2] at hK; exact hK
theorem mp_isNode (hok : zOk X) {v : Int32} (hK : K (some (.int (zIn v 0 3))) g) : zCal X (d + 1) yX3_isNode wX3_isNode [.int v] g K KX := mX3_isNode hok v (mp_in hok ⟨_, rfl, zIn_b _ _ _, zIn_b _ _ _, hK⟩)
theorem mp_isKind (hok : zOk X) {v : Int32} (hK : K (some (.int (zIn v 0 7))) g) : zCal X (d + 1) yX3_isKind wX3_isKind [.int v] g K KX := mX3_isKind hok v (mp_in hok ⟨_, rfl, zIn_b _ _ _, zIn_b _ _ _, hK⟩)
theorem mp_setPatience (hok : zOk X) (hM : zMd g m fi ad fa) {v : Int32}
    (h1 : zIn v 0 1000 ≠ 0 → ∀ g' : zG, zMd g' m (va_up (va_up fi 34 0) 1 v) ad fa → zNm g g' → K (some (.int (fi 1))) g')
    (h0 : zIn v 0 1000 = 0 → ∀ g' : zG, zMd g' m (va_up fi 34 1) ad fa → zNm g g' → K (some (.int 0)) g') : zCal X (d + 1) yX3_setPatience wX3_setPatience [.ref m, .int v] g K KX := by
  refine mX3_setPatience hok m v (mp_in hok ⟨_, rfl, zIn_b _ _ _, hM.is, mp_goes hok hM (fun g2 a1 a2 => ?_)⟩)
  by_cases c : zIn v 0 1000 = 0
  · have hz : zth (zIn v 0 1000) 1 1 = 1 := by
      unfold zth
      rw [if_pos c]
    rw [hz] at a1 ⊢
    exact ⟨_, rfl, Or.inl rfl, fun z => absurd rfl z, fun _ => h0 c g2 a1 a2⟩
  · have hz : zth (zIn v 0 1000) 1 1 = 0 := by
      unfold zth
      rw [if_neg c]
      rfl
    rw [hz] at a1 ⊢
    refine ⟨_, rfl, Or.inr rfl, fun _ => ⟨_, _, a1.1, rfl, _, a1.1, by simp [zMf], fun g3 e3 => h1 c g3 (a1.si e3 (by decide)) (a2.trans (zNm.si e3))⟩, fun z => absurd (show (1 : Int32) = 0 from z) (by decide)⟩
end GOS
