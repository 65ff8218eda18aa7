set_option maxRecDepth 100000
theorem zks_p {fa fa' : Nat → Nat → Int32} (ans : Nat → Int32) (i old : Nat) : ∀ k : Nat, (∀ e, e < k → fa' 25 (80 * i + e) = fa 25 (80 * i + e)) → zks fa' ans i old k = zks fa ans i old k
  | 0, _ => rfl
  | k + 1, h => by
    unfold zks
    rw [zks_p ans i old k (fun e he => h e (by omega)), h k (by omega)]
theorem ztk_p {fa fa' : Nat → Nat → Int32} (ans : Nat → Int32) (i old : Nat) (h0 : fa' 24 i = fa 24 i) : ∀ k : Nat, (∀ e, e < k → fa' 25 (80 * i + e) = fa 25 (80 * i + e)) → ztk fa' ans i old k = ztk fa ans i old k
  | 0, _ => h0
  | k + 1, h => by
    unfold ztk
    rw [ztk_p ans i old h0 k (fun e he => h e (by omega)), h k (by omega)]
/-- the answers of the first k monitors are kept anew -/
def zka (fa : Nat → Nat → Int32) (ans : Nat → Nat → Int32) (n : Int32) (old len k : Nat) (fa' : Nat → Nat → Int32) : Prop := (∀ j, j ≠ 24 → j ≠ 25 → j ≠ 26 → j ≠ 28 → j ≠ 30 → j ≠ 32 → j ≠ 33 → fa' j = fa j) ∧ (∀ i e, e < 80 → fa' 25 (80 * i + e) = if i < k ∧ e < len then ans i e else fa 25 (80 * i + e)) ∧ (∀ i e, e < 80 → fa' 26 (80 * i + e) = if i < k ∧ e < len ∧ (old ≤ e ∨ ¬ fa 25 (80 * i + e) = ans i e) then n else fa 26 (80 * i + e)) ∧ ∀ i, fa' 24 i = if i < k then ztk fa (ans i) i old len else fa 24 i
/-- the sum of what is not open that was -/
def zkS (fa : Nat → Nat → Int32) (ans : Nat → Nat → Int32) (old len : Nat) : Nat → Int32
  | 0 => 0
  | k + 1 => zkS fa ans old len k + zks fa (ans k) k old len
theorem zka_0 (fa : Nat → Nat → Int32) (ans : Nat → Nat → Int32) (n : Int32) (old len : Nat) : zka fa ans n old len 0 fa := ⟨fun _ _ _ _ _ _ _ _ => rfl, fun i e _ => by rw [if_neg (by omega)], fun i e _ => by rw [if_neg (by omega)], fun i => by rw [if_neg (by omega)]⟩
theorem zka_s {fa fa' fa'' : Nat → Nat → Int32} {ans : Nat → Nat → Int32} {n : Int32} {old len k : Nat} (hl : len ≤ 80) (h : zka fa ans n old len k fa') (h' : zkR fa' (ans k) n k old len fa'') : zka fa ans n old len (k + 1) fa'' := by
  obtain ⟨a1, a2, a3, a4⟩ := h
  obtain ⟨b1, b2, b3, b4⟩ := h'
  have hk25 : ∀ e, e < 80 → fa' 25 (80 * k + e) = fa 25 (80 * k + e) := fun e he => by rw [a2 k e he, if_neg (by omega)]
  have hk26 : ∀ e, e < 80 → fa' 26 (80 * k + e) = fa 26 (80 * k + e) := fun e he => by rw [a3 k e he, if_neg (by omega)]
  refine ⟨fun j u1 u2 u3 u4 u5 u6 u7 => (b1 j u1 u2 u3 u4 u5 u6 u7).trans (a1 j u1 u2 u3 u4 u5 u6 u7), fun i e he => ?_, fun i e he => ?_, fun i => ?_⟩
  · rw [b2]
    unfold zkp
    by_cases c : i = k ∧ e < len
    · obtain ⟨rfl, c⟩ := c
      rw [if_pos (by omega), if_pos (by omega)]
      congr 1
      omega
    · rw [if_neg (by omega), a2 i e he]
      by_cases c2 : i < k ∧ e < len
      · rw [if_pos c2, if_pos (by omega)]
      · rw [if_neg c2, if_neg (by omega)]
  · rw [b3]
    unfold zsc'
    by_cases c : i = k ∧ e < len
    · obtain ⟨rfl, c⟩ := c
      have e0 : 80 * i + e - 80 * i = e := by omega
      rw [e0, hk25 e he, hk26 e he]
      by_cases c3 : old ≤ e ∨ ¬ fa 25 (80 * i + e) = ans i e
      · rw [if_pos ⟨by omega, by omega, c3⟩, if_pos ⟨by omega, c, c3⟩]
      · rw [if_neg (fun w => c3 w.2.2), if_neg (fun w => c3 w.2.2)]
    · rw [if_neg (fun w => c (by omega)), a3 i e he]
      by_cases c2 : i < k
      · have c3 : i < k + 1 := by omega
        simp only [c2, c3]
      · by_cases c4 : i = k
        · have c5 : ¬ e < len := fun w => c ⟨c4, w⟩
          rw [if_neg (fun w => c2 w.1), if_neg (fun w => c5 w.2.1)]
        · rw [if_neg (fun w => c2 w.1), if_neg (fun w => by have := w.1; omega)]
  · rw [b4]
    by_cases c : i = k
    · subst c
      rw [if_pos rfl, if_pos (by omega)]
      exact ztk_p _ _ _ (by rw [a4, if_neg (by omega)]) _ (fun e he => hk25 e (by omega))
    · rw [if_neg c, a4 i]
      by_cases c2 : i < k
      · rw [if_pos c2, if_pos (by omega)]
      · rw [if_neg c2, if_neg (by omega)]
