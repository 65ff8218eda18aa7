set_option maxRecDepth 100000
theorem zIn_n {v : Int32} {n : Nat} (hn : n < 2 ^ 30) (h : zIn v 0 (nI n - 1) ≠ 0) : ∃ j : Nat, j < n ∧ v = nI j := by
  unfold zIn at h
  by_cases q1 : v < 0
  · rw [if_pos q1] at h
    exact absurd rfl h
  · rw [if_neg q1] at h
    by_cases q2 : nI n - 1 < v
    · rw [if_pos q2] at h
      exact absurd rfl h
    · obtain ⟨j, hj, rfl⟩ := nI_of q1
      cases n with
      | zero => exact absurd (show nI 0 - 1 < nI j from Int32.lt_iff_toInt_lt.mpr (by rw [nI_toInt hj]; have : (nI 0 - 1).toInt = -1 := by decide
                                                                                      omega)) q2
      | succ n =>
        rw [nI_pred] at q2
        refine ⟨j, ?_, rfl⟩
        have := mt (nI_ltI (a := n) (b := j) (by omega) hj).mpr q2
        omega
theorem zth1 {a : Int32} : zth a 1 1 = if a = 0 then 1 else 0 := by
  unfold zth
  by_cases c : a = 0
  · rw [if_pos c, if_pos c]
  · rw [if_neg c, if_neg c]
    rfl
section GT3
variable {X : zX} {d : Nat} {g : zG} {K : Option Value → zG → Prop} {KX : String → zG → Prop} {m : Nat} {fi : Nat → Int32} {ad : Nat → Nat} {fa : Nat → Nat → Int32}
theorem mp_timeOf (hok : zOk X) (hM : zMd g m fi ad fa) {v : Int32} {n : Nat} (hn : n ≤ 80) (h3 : fi 3 = nI n)
    (h1 : ∀ j : Nat, j < n → v = nI j → ∀ g' : zG, zMd g' m (va_up fi 34 0) ad fa → zNm g g' → K (some (.int (fa 7 j))) g')
    (h0 : zIn v 0 (nI n - 1) = 0 → ∀ g' : zG, zMd g' m (va_up fi 34 1) ad fa → zNm g g' → K (some (.int 0)) g') : zCal X (d + 2) yX3_timeOf wX3_timeOf [.ref m, .int v] g K KX := by
  refine mX3_timeOf (d := d + 1) hok m v ⟨hM.is, mp_isEvent hok hM ⟨_, rfl, zIn_b _ _ _, hM.is, mp_goes2 hok hM (fun z g2 a1 a2 => ?_) (fun z g2 a1 a2 => ?_)⟩⟩
  · rw [h3, zth1] at z
    have hz : zIn v 0 (nI n - 1) ≠ 0 := fun w => by
      rw [if_pos w] at z
      exact absurd z (by decide)
    obtain ⟨j, hj, rfl⟩ := zIn_n (by omega) hz
    refine ⟨_, rfl, Or.inr rfl, fun w => absurd w (by decide), fun _ => ⟨_, _, a1.1, rfl, _, _, a1.2 7 (by decide), (zin 80 rfl (by omega) (by omega)), fun w hw => ?_⟩⟩
    rw [nI_clamp (by omega)] at hw
    subst hw
    exact h1 j hj rfl g2 a1 a2
  · rw [h3, zth1] at z a1
    by_cases c : zIn v 0 (nI n - 1) = 0
    · rw [if_pos c] at a1
      exact ⟨_, rfl, Or.inl rfl, fun _ => h0 c g2 a1 a2, fun w => absurd rfl w⟩
    · rw [if_neg c] at z
      exact absurd rfl z
end GT3
