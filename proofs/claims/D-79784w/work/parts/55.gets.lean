set_option maxRecDepth 100000
section GTS
variable {X : zX} {d : Nat} {g : zG} {K : Option Value → zG → Prop} {KX : String → zG → Prop} {m : Nat} {fi : Nat → Int32} {ad : Nat → Nat} {fa : Nat → Nat → Int32}
theorem mp_thrown (hok : zOk X) (hM : zMd g m fi ad fa) (hK : K (some (.int (fi 34))) g) : zCal X d yX3_thrown wX3_thrown [.ref m] g K KX := mX3_thrown hok m ⟨_, _, hM.1, rfl, hK⟩
theorem mp_setOffset (hok : zOk X) (hM : zMd g m fi ad fa) {a b : Int32}
    (h1 : zth (zIn a 0 3) (zIn b (-1000) 1000) 1 = 0 → ∀ g' : zG, zMd g' m (va_up fi 34 0) ad (va_up fa 0 (upd (fa 0) a.toNatClampNeg b)) → zNm g g' → K (some (.int (fa 0 a.toNatClampNeg))) g')
    (h0 : zth (zIn a 0 3) (zIn b (-1000) 1000) 1 ≠ 0 → ∀ g' : zG, zMd g' m (va_up fi 34 (zth (zIn a 0 3) (zIn b (-1000) 1000) 1)) ad fa → zNm g g' → K (some (.int 0)) g') : zCal X (d + 2) yX3_setOffset wX3_setOffset [.ref m, .int a, .int b] g K KX := by
  refine mX3_setOffset (d := d + 1) hok m a b (mp_isNode hok ⟨_, rfl, zIn_b _ _ _, mp_in hok ⟨_, rfl, zIn_b _ _ _, hM.is, mp_goes hok hM (fun g2 a1 a2 => ?_)⟩⟩)
  by_cases c : zth (zIn a 0 3) (zIn b (-1000) 1000) 1 = 0
  · rw [c] at a1 ⊢
    have hp : vp_in a 4 := by
      by_cases q : zIn a 0 3 = 0
      · unfold zth at c
        rw [if_pos q] at c
        exact absurd c (by decide)
      · unfold zIn at q
        by_cases q1 : a < 0
        · rw [if_pos q1] at q
          exact absurd rfl q
        · rw [if_neg q1] at q
          by_cases q2 : (3 : Int32) < a
          · rw [if_pos q2] at q
            exact absurd rfl q
          · obtain ⟨j, hj, rfl⟩ := nI_of2 (M := 3) (n := 3) (by decide) q1 (Int32.not_lt.mp q2)
            exact vp_in_nI (by omega) (by omega)
    refine ⟨_, rfl, Or.inr rfl, fun _ => ⟨_, _, a1.1, rfl, _, _, a1.2 0 (by decide), hp, fun v hv => ⟨_, _, a1.1, rfl, _, _, a1.2 0 (by decide), hp, fun g3 e3 => ?_⟩⟩, fun z => absurd (show (1 : Int32) = 0 from z) (by decide)⟩
    subst hv
    exact h1 c g3 (a1.sa (j := 0) (by decide) e3) (a2.trans (zNm.sa (j := 0) (by decide) e3))
  · refine ⟨_, rfl, ?_, fun z => ?_, fun _ => h0 c g2 a1 a2⟩
    · rw [if_neg c]
      exact Or.inl rfl
    · rw [if_neg c] at z
      exact absurd rfl z
end GTS
