set_option maxRecDepth 100000
section ZNO
variable {fi fi' : Nat → Int32} {fa fa' : Nat → Nat → Int32} {lg : List Nat} {M : Nat} {np : Nat → Nat}
/-- where the model puts a new event, nodes rise -/
theorem zno_ins {nd wh : Int32} (hr : zri fa lg) (h : zno fa lg) (he7 : ∀ v ∈ lg, fa' 7 v = fa 7 v) (he6 : ∀ v ∈ lg, fa' 6 v = fa 6 v) (hn7 : fa' 7 lg.length = wh) (hn6 : fa' 6 lg.length = nd) : zno fa' (zlg fa lg nd wh) := by
  obtain ⟨p1, p2⟩ := zpl_at (fun k => zah fa nd wh (zr lg k)) lg.length
  have hle := zpc_le fa lg nd wh
  have hlen := zlg_len fa lg nd wh
  -- what is ahead is so from there on
  have mono : ∀ j k, j ≤ k → k < lg.length → zah fa nd wh (zr lg j) = true → zah fa nd wh (zr lg k) = true := fun j k hjk hk hj => by
    have ht := hr j k hjk hk
    unfold zah at hj ⊢
    rw [Bool.or_eq_true, Bool.and_eq_true, decide_eq_true_iff, decide_eq_true_iff, beq_iff_eq] at hj ⊢
    rcases hj with z | ⟨z1, z2⟩
    · exact Or.inl (Int32.lt_of_lt_of_le z ht)
    · by_cases c : fa 7 (zr lg k) = wh
      · refine Or.inr ⟨c, Int32.lt_of_lt_of_le z2 (h j k hjk hk (by rw [z1, c]))⟩
      · left
        rw [z1] at ht
        exact Int32.lt_iff_le_and_ne.mpr ⟨ht, fun z => c z.symm⟩
  have lo : ∀ j, j < zpc fa lg nd wh → zah fa nd wh (zr lg j) = false := fun j hj => by
    have h0 := p2 (show 0 < zpl (fun k => zah fa nd wh (zr lg k)) lg.length from Nat.lt_of_le_of_lt (Nat.zero_le _) hj)
    have h0 : zah fa nd wh (zr lg (zpc fa lg nd wh - 1)) = false := h0
    cases c : zah fa nd wh (zr lg j) with
    | false => rfl
    | true =>
      rw [mono j (zpc fa lg nd wh - 1) (by omega) (by omega) c] at h0
      cases h0
  have hi : ∀ j, zpc fa lg nd wh ≤ j → j < lg.length → zah fa nd wh (zr lg j) = true := fun j h1 h2 => p1 j h1 h2
  have val : ∀ k, zr (zlg fa lg nd wh) k = if k < zpc fa lg nd wh then zr lg k else if k = zpc fa lg nd wh then lg.length else zr lg (k - 1) := fun k => zr_ins hle k
  have o7 : ∀ k, k < lg.length → fa' 7 (zr lg k) = fa 7 (zr lg k) := fun k hk => he7 _ (zr_mem hk)
  have o6 : ∀ k, k < lg.length → fa' 6 (zr lg k) = fa 6 (zr lg k) := fun k hk => he6 _ (zr_mem hk)
  intro j k hjk hk ht
  rw [hlen] at hk
  rw [val j, val k] at ht ⊢
  by_cases cj : j < zpc fa lg nd wh
  · rw [if_pos cj] at ht ⊢
    by_cases ck : k < zpc fa lg nd wh
    · rw [if_pos ck] at ht ⊢
      rw [o7 j (by omega), o7 k (by omega)] at ht
      rw [o6 j (by omega), o6 k (by omega)]
      exact h j k hjk (by omega) ht
    · rw [if_neg ck] at ht ⊢
      by_cases ce : k = zpc fa lg nd wh
      · rw [if_pos ce] at ht ⊢
        rw [o7 j (by omega), hn7] at ht
        rw [o6 j (by omega), hn6]
        have := lo j cj
        unfold zah at this
        rw [Bool.or_eq_false_iff, Bool.and_eq_false_iff] at this
        rcases this.2 with z | z
        · exact absurd ht (by simpa using z)
        · exact Int32.not_lt.mp (of_decide_eq_false z)
      · rw [if_neg ce] at ht ⊢
        rw [o7 j (by omega), o7 (k - 1) (by omega)] at ht
        rw [o6 j (by omega), o6 (k - 1) (by omega)]
        exact h j (k - 1) (by omega) (by omega) ht
  · rw [if_neg cj] at ht ⊢
    rw [if_neg (show ¬ k < zpc fa lg nd wh by omega)] at ht ⊢
    by_cases ce : j = zpc fa lg nd wh
    · rw [if_pos ce] at ht ⊢
      by_cases ck : k = zpc fa lg nd wh
      · rw [if_pos ck]
        exact Int32.le_refl _
      · rw [if_neg ck] at ht ⊢
        rw [o7 (k - 1) (by omega), hn7] at ht
        rw [o6 (k - 1) (by omega), hn6]
        have := hi (k - 1) (by omega) (by omega)
        unfold zah at this
        rw [Bool.or_eq_true, Bool.and_eq_true, decide_eq_true_iff, decide_eq_true_iff, beq_iff_eq] at this
        rcases this with z | ⟨-, z⟩
        · rw [← ht] at z
          exact (Int32.lt_irrefl z).elim
        · exact Int32.le_of_lt z
    · rw [if_neg ce] at ht ⊢
      rw [if_neg (show ¬ k = zpc fa lg nd wh by omega)] at ht ⊢
      rw [o7 (j - 1) (by omega), o7 (k - 1) (by omega)] at ht
      rw [o6 (j - 1) (by omega), o6 (k - 1) (by omega)]
      exact h (j - 1) (k - 1) (by omega) (by omega) ht
theorem zno_cg (h : zno fa lg) (h7 : ∀ v ∈ lg, fa' 7 v = fa 7 v) (h6 : ∀ v ∈ lg, fa' 6 v = fa 6 v) : zno fa' lg := fun j k hjk hk ht => by
  have mj := zr_mem (R := lg) (k := j) (by omega)
  have mk := zr_mem hk
  rw [h7 _ mj, h7 _ mk] at ht
  rw [h6 _ mj, h6 _ mk]
  exact h j k hjk hk ht
theorem zno_ev {nd wh kd ix vl : Int32} (hLi : zLi fi fa lg) (hlv : ∀ v ∈ lg, v < lg.length) (h : zno fa lg) (e : zev fi fa lg M np nd wh kd ix vl fi' fa') : zno fa' (zlg fa lg nd wh) := by
  obtain ⟨-, -, e3⟩ := zev_n e
  have f6 := e3 6 (by decide) (by decide) (by decide) (by decide) (by decide) (by decide) (by decide) (by decide)
  have f7 := e3 7 (by decide) (by decide) (by decide) (by decide) (by decide) (by decide) (by decide) (by decide)
  refine zno_ins hLi.2.2.1 h (fun v hv => ?_) (fun v hv => ?_) ?_ ?_
  · rw [f7]
    exact zc2_v _ _ _ _ _ _ _ _ (hlv v hv)
  · rw [f6]
    exact zc2_v _ _ _ _ _ _ _ _ (hlv v hv)
  · rw [f7]
    unfold zc2 va_up upd
    simp
  · rw [f6]
    unfold zc2 va_up upd
    simp
end ZNO
/-- a row of orders, worked through up to 121 of them -/
def zpq (ok : List Nat → Bool) : List (List Nat) → Nat × Nat → Nat × Nat
  | [], s => s
  | l :: L, s => if 120 < s.1 then s else zpq ok L (s.1 + 1, s.2 + if ok l = true then 1 else 0)
theorem zpq_stop (ok : List Nat → Bool) {s : Nat × Nat} (h : 120 < s.1) : ∀ L : List (List Nat), zpq ok L s = s
  | [] => rfl
  | l :: L => if_pos h
theorem zpq_app (ok : List Nat → Bool) : ∀ (L M : List (List Nat)) (s : Nat × Nat), zpq ok (L ++ M) s = zpq ok M (zpq ok L s)
  | [], M, s => rfl
  | l :: L, M, s => by
    by_cases c : 120 < s.1
    · rw [zpq_stop ok c, zpq_stop ok c, zpq_stop ok c]
    · show (if 120 < s.1 then s else zpq ok (L ++ M) _) = zpq ok M (if 120 < s.1 then s else zpq ok L _)
      rw [if_neg c, if_neg c, zpq_app ok L M]
theorem zpq_1 (ok : List Nat → Bool) : ∀ (L : List (List Nat)) (s : Nat × Nat), s.1 ≤ 121 → (zpq ok L s).1 = if 120 < s.1 + L.length then 121 else s.1 + L.length
  | [], s, h => by
    show s.1 = if 120 < s.1 + 0 then 121 else s.1 + 0
    split <;> omega
  | l :: L, s, h => by
    show (if 120 < s.1 then s else zpq ok L _).1 = _
    rw [List.length_cons]
    by_cases c : 120 < s.1
    · rw [if_pos c, if_pos (by omega)]
      omega
    · rw [if_neg c, zpq_1 ok L _ (by show s.1 + 1 ≤ 121; omega)]
      show (if 120 < s.1 + 1 + L.length then 121 else s.1 + 1 + L.length) = _
      rw [show s.1 + (L.length + 1) = s.1 + 1 + L.length by omega]
theorem zpq_2 (ok : List Nat → Bool) : ∀ (L : List (List Nat)) (s : Nat × Nat), s.1 + L.length ≤ 121 → (zpq ok L s).2 = s.2 + zsf (fun l => if ok l = true then 1 else 0) L
  | [], s, h => rfl
  | l :: L, s, h => by
    rw [List.length_cons] at h
    show (if 120 < s.1 then s else zpq ok L _).2 = s.2 + ((if ok l = true then 1 else 0) + zsf (fun l => if ok l = true then 1 else 0) L)
    rw [if_neg (by omega), zpq_2 ok L _ (by show s.1 + 1 + L.length ≤ 121; omega)]
    show s.2 + (if ok l = true then 1 else 0) + _ = _
    omega
