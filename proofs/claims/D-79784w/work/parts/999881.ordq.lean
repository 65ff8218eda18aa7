set_option maxRecDepth 100000
section ORQ
variable {fa : Nat → Nat → Int32} {lg : List Nat}
theorem zen_sp (p : Nat) : ∀ c k : Nat, (∀ j, k ≤ j → j < zen fa lg p c k → fa 7 (zr lg j) = fa 7 (zr lg p)) ∧ (zen fa lg p c k < k + c → fa 7 (zr lg (zen fa lg p c k)) ≠ fa 7 (zr lg p))
  | 0, k => ⟨fun j h1 h2 => absurd h2 (Nat.not_lt.mpr h1), fun h => absurd h (Nat.lt_irrefl k)⟩
  | c + 1, k => by
    unfold zen
    by_cases h : fa 7 (zr lg k) = fa 7 (zr lg p)
    · rw [if_pos h]
      obtain ⟨a, b⟩ := zen_sp p c (k + 1)
      refine ⟨fun j h1 h2 => ?_, fun h => b (by omega)⟩
      by_cases e : j = k
      · rw [e]
        exact h
      · exact a j (by omega) h2
    · rw [if_neg h]
      exact ⟨fun j h1 h2 => absurd h2 (Nat.not_lt.mpr h1), fun _ => h⟩
theorem zsplit {key : Nat → Int32} : ∀ M : List Nat, M.Pairwise (fun u v => key u ≤ key v) → (∀ v ∈ M, ∃ q : Nat, q < 4 ∧ key v = nI q) → M = M.filter (fun v => key v == nI 0) ++ (M.filter (fun v => key v == nI 1) ++ (M.filter (fun v => key v == nI 2) ++ M.filter (fun v => key v == nI 3)))
  | [], _, _ => rfl
  | a :: M, hp, hq => by
    obtain ⟨h1, h2⟩ := List.pairwise_cons.mp hp
    have ih := zsplit M h2 (fun v hv => hq v (List.mem_cons_of_mem _ hv))
    obtain ⟨q, q4, e⟩ := hq a List.mem_cons_self
    have low : ∀ j, j < q → M.filter (fun v => key v == nI j) = [] := fun j hj => List.filter_eq_nil_iff.mpr (fun v hv => by
      have := h1 v hv
      rw [e] at this
      intro z
      rw [beq_iff_eq] at z
      rw [z] at this
      exact nI_ge hj (by omega) this)
    have ea : ∀ j, j < 4 → (key a == nI j) = decide (q = j) := fun j hj => by
      rw [e]
      by_cases c : q = j
      · subst c
        simp
      · rw [decide_eq_false c]
        exact beq_eq_false_iff_ne.mpr (fun z => c ((nI_eq (by omega) (by omega)).mp z))
    have f : ∀ j, j < 4 → (a :: M).filter (fun v => key v == nI j) = if q = j then a :: M.filter (fun v => key v == nI j) else M.filter (fun v => key v == nI j) := fun j hj => by
      rw [List.filter_cons, ea j hj]
      by_cases c : q = j
      · rw [if_pos (decide_eq_true c), if_pos c]
      · rw [if_neg (by rw [decide_eq_false c]; decide), if_neg c]
    rw [f 0 (by omega), f 1 (by omega), f 2 (by omega), f 3 (by omega)]
    have : q = 0 ∨ q = 1 ∨ q = 2 ∨ q = 3 := by omega
    rcases this with rfl | rfl | rfl | rfl
    · rw [if_pos rfl, if_neg (by omega), if_neg (by omega), if_neg (by omega), List.cons_append, ← ih]
    · rw [if_neg (by omega), if_pos rfl, if_neg (by omega), if_neg (by omega), low 0 (by omega), List.nil_append, List.cons_append]
      rw [low 0 (by omega), List.nil_append] at ih
      rw [← ih]
    · rw [if_neg (by omega), if_neg (by omega), if_pos rfl, if_neg (by omega), low 0 (by omega), low 1 (by omega), List.nil_append, List.nil_append, List.cons_append]
      rw [low 0 (by omega), low 1 (by omega), List.nil_append, List.nil_append] at ih
      rw [← ih]
    · rw [if_neg (by omega), if_neg (by omega), if_neg (by omega), if_pos rfl, low 0 (by omega), low 1 (by omega), low 2 (by omega), List.nil_append, List.nil_append, List.nil_append]
      rw [low 0 (by omega), low 1 (by omega), low 2 (by omega), List.nil_append, List.nil_append, List.nil_append] at ih
      rw [← ih]
theorem zon_fl (q p : Nat) : ∀ c : Nat, p + c ≤ lg.length → zon fa lg q p c = ((zsg lg p c).filter (fun v => fa 6 v == nI q)).length
  | 0, _ => by
    unfold zsg
    rw [List.take_zero]
    rfl
  | c + 1, h => by
    rw [← zsg_app lg p c 1, List.filter_append, List.length_append, ← zon_fl q p c (by omega)]
    show zon fa lg q p c + (if fa 6 (zr lg (p + c)) = nI q then 1 else 0) = _
    have e : zsg lg (p + c) 1 = [zr lg (p + c)] := by
      rw [zsg_s (by omega)]
      unfold zsg
      rw [List.take_zero]
    rw [e]
    congr 1
    by_cases c2 : fa 6 (zr lg (p + c)) = nI q
    · rw [if_pos c2, List.filter_cons_of_pos (by simp [c2])]
      rfl
    · rw [if_neg c2, List.filter_cons_of_neg (by simp [c2])]
      rfl
theorem zsg_sub {p n s c : Nat} (h : s + c ≤ n) : zsg lg (p + s) c = ((zsg lg p n).drop s).take c := by
  unfold zsg
  rw [List.drop_take, List.drop_drop, List.take_take, Nat.min_eq_left (by omega)]
theorem zsg_zr {p c i : Nat} (hi : i < c) : zr (zsg lg p c) i = zr lg (p + i) := by
  unfold zr zsg
  rw [List.getD_eq_getElem?_getD, List.getD_eq_getElem?_getD, List.getElem?_take, if_pos hi, List.getElem?_drop]
theorem zsg_mem {p c v : Nat} (h : v ∈ zsg lg p c) (hc : p + c ≤ lg.length) : ∃ j, p ≤ j ∧ j < p + c ∧ zr lg j = v := by
  obtain ⟨i, hi, e⟩ := List.getElem_of_mem h
  have hi2 := hi
  rw [zsg_len hc] at hi2
  refine ⟨p + i, by omega, by omega, ?_⟩
  rw [← zsg_zr hi2, zr_el hi]
  exact e
/-- the rows of the four nodes, of a block -/
theorem zgl (hn : lg.Nodup) (hri : zri fa lg) (hno : zno fa lg) (hnd : znd fa lg) {p : Nat} (hp : p < lg.length) {pre : List Nat} (hm : ∀ u, u ∈ pre ↔ u ∈ lg.take p) : ∀ q, q < 4 → lg.filter (zny fa (fa 7 (zr lg p)) pre q) = zbL fa lg p q := by
  obtain ⟨e1, e2⟩ := zeN_le (fa := fa) (lg := lg) hp
  obtain ⟨t1, t2⟩ := zen_sp (fa := fa) (lg := lg) p (lg.length - p) p
  have t1 : ∀ j, p ≤ j → j < zeN fa lg p → fa 7 (zr lg j) = fa 7 (zr lg p) := t1
  have t2 : zeN fa lg p < lg.length → fa 7 (zr lg (zeN fa lg p)) ≠ fa 7 (zr lg p) := fun h => t2 (by show zeN fa lg p < _; omega)
  have hsplit : lg = lg.take p ++ (zsg lg p (zeN fa lg p - p) ++ lg.drop (zeN fa lg p)) := by
    have h2 : zsg lg p (zeN fa lg p - p) ++ lg.drop (zeN fa lg p) = lg.drop p := by
      unfold zsg
      have : lg.drop (zeN fa lg p) = (lg.drop p).drop (zeN fa lg p - p) := by
        rw [List.drop_drop, show p + (zeN fa lg p - p) = zeN fa lg p by omega]
      rw [this, List.take_append_drop]
    rw [h2, List.take_append_drop]
  have hndp : ∀ u, u ∈ zsg lg p (zeN fa lg p - p) → ¬ u ∈ lg.take p := fun u hu hu2 => by
    have h := hn
    rw [hsplit] at h
    have h2 := (List.nodup_append.mp h).2.2
    exact h2 u hu2 u (List.mem_append_left _ hu) rfl
  have hmid : ∀ q, lg.filter (zny fa (fa 7 (zr lg p)) pre q) = (zsg lg p (zeN fa lg p - p)).filter (fun v => fa 6 v == nI q) := fun q => by
    have hsp0 := congrArg (List.filter (zny fa (fa 7 (zr lg p)) pre q)) hsplit
    rw [List.filter_append, List.filter_append] at hsp0
    refine hsp0.trans ?_
    have f1 : (lg.take p).filter (zny fa (fa 7 (zr lg p)) pre q) = [] := List.filter_eq_nil_iff.mpr (fun u hu => by
      unfold zny
      have := (hm u).mpr hu
      simp [this])
    have f3 : (lg.drop (zeN fa lg p)).filter (zny fa (fa 7 (zr lg p)) pre q) = [] := List.filter_eq_nil_iff.mpr (fun u hu => by
      obtain ⟨i, hi, e⟩ := List.getElem_of_mem hu
      rw [List.length_drop] at hi
      rw [List.getElem_drop] at e
      have e' : zr lg (zeN fa lg p + i) = u := by rw [zr_el (by omega), e]
      have h1 := hri p (zeN fa lg p) (by omega) (by omega)
      have h2 := hri (zeN fa lg p) (zeN fa lg p + i) (by omega) (by omega)
      have h3 := t2 (by omega)
      rw [e'] at h2
      unfold zny
      have : ¬ fa 7 u = fa 7 (zr lg p) := fun z => by
        rw [z] at h2
        exact h3 (Int32.le_antisymm h2 h1)
      simp [this])
    rw [f1, f3, List.nil_append, List.append_nil]
    refine List.filter_congr (fun u hu => ?_)
    obtain ⟨j, j1, j2, j3⟩ := zsg_mem hu (by omega)
    have h4 := t1 j j1 (by omega)
    rw [j3] at h4
    have h5 : ¬ u ∈ pre := fun z => hndp u hu ((hm u).mp z)
    unfold zny
    simp [h4, h5]
  have hpw : (zsg lg p (zeN fa lg p - p)).Pairwise (fun u v => fa 6 u ≤ fa 6 v) := by
    rw [List.pairwise_iff_getElem]
    intro a b ha hb hab
    have ha2 := ha
    have hb2 := hb
    rw [zsg_len (by omega)] at ha2 hb2
    rw [← zr_el ha, ← zr_el hb, zsg_zr ha2, zsg_zr hb2]
    exact hno (p + a) (p + b) (by omega) (by omega) ((t1 (p + a) (by omega) (by omega)).trans (t1 (p + b) (by omega) (by omega)).symm)
  have hsp := zsplit (key := fa 6) _ hpw (fun v hv => by
    obtain ⟨j, j1, j2, j3⟩ := zsg_mem hv (by omega)
    exact hnd v (by rw [← j3]; exact zr_mem (by omega)))
  have hc : ∀ q, zbA fa lg p q = ((zsg lg p (zeN fa lg p - p)).filter (fun v => fa 6 v == nI q)).length := fun q => zon_fl q p _ (by omega)
  have hsum := zon_sum hnd p (zeN fa lg p - p) (by omega)
  have hsum : zbA fa lg p 0 + zbA fa lg p 1 + zbA fa lg p 2 + zbA fa lg p 3 = zeN fa lg p - p := hsum
  intro q hq
  rw [hmid q]
  have : q = 0 ∨ q = 1 ∨ q = 2 ∨ q = 3 := by omega
  rcases this with rfl | rfl | rfl | rfl
  · show _ = zsg lg (p + 0) (zbA fa lg p 0)
    rw [zsg_sub (n := zeN fa lg p - p) (by omega), List.drop_zero]
    conv => rhs; rw [hsp]
    rw [hc 0, List.take_left]
  · show _ = zsg lg (p + zbA fa lg p 0) (zbA fa lg p 1)
    rw [zsg_sub (n := zeN fa lg p - p) (by omega)]
    conv => rhs; rw [hsp]
    rw [hc 0, hc 1, List.drop_left, List.take_left]
  · show _ = zsg lg (p + zbA fa lg p 0 + zbA fa lg p 1) (zbA fa lg p 2)
    rw [Nat.add_assoc, zsg_sub (n := zeN fa lg p - p) (by omega)]
    conv => rhs; rw [hsp]
    rw [← List.drop_drop, hc 0, hc 1, hc 2, List.drop_left, List.drop_left, List.take_left]
  · show _ = zsg lg (p + zbA fa lg p 0 + zbA fa lg p 1 + zbA fa lg p 2) (zbA fa lg p 3)
    rw [Nat.add_assoc, Nat.add_assoc, zsg_sub (n := zeN fa lg p - p) (by omega)]
    conv => rhs; rw [hsp]
    rw [← List.drop_drop, ← List.drop_drop, hc 0, hc 1, hc 2, hc 3, List.drop_left, List.drop_left, List.drop_left, List.take_length]
/-- all orders, by their numbers -/
theorem zgo_all (hn : lg.Nodup) (hri : zri fa lg) (hno : zno fa lg) (hnd : znd fa lg) (f : List Nat → Nat) : ∀ (fu p : Nat) (pre : List Nat), lg.length ≤ p + fu → p ≤ lg.length → pre.length = p → (∀ u, u ∈ pre ↔ u ∈ lg.take p) → zsf f (zgg fa lg (lg.length - p) pre) = zsr (fun k => f (pre ++ zlR fa lg fu p k)) (zpr fa lg fu p)
  | 0, p, pre, h1, h2, h3, h4 => by
    rw [show lg.length - p = 0 by omega]
    show f pre + 0 = 0 + f (pre ++ [])
    rw [List.append_nil, Nat.add_zero, Nat.zero_add]
  | fu + 1, p, pre, h1, h2, h3, h4 => by
    by_cases c : lg.length ≤ p
    · rw [show lg.length - p = 0 by omega]
      unfold zpr zlR
      rw [if_pos c]
      show f pre + 0 = 0 + f (pre ++ if lg.length ≤ p then [] else _)
      rw [if_pos c, List.append_nil, Nat.add_zero, Nat.zero_add]
    · obtain ⟨e1, e2⟩ := zeN_le (fa := fa) (lg := lg) (p := p) (by omega)
      obtain ⟨t1, -⟩ := zen_sp (fa := fa) (lg := lg) p (lg.length - p) p
      obtain ⟨q0, q1, q2, q3, qs⟩ := zbL_len hnd (p := p) (by omega)
      have G := zgl hn hri hno hnd (p := p) (by omega) h4
      have hb := zgo_blk hn f (T := fa 7 (zr lg p)) (r := lg.length - zeN fa lg p) (zeN fa lg p - p) (zbL fa lg p 0) (zbL fa lg p 1) (zbL fa lg p 2) (zbL fa lg p 3) pre (by omega) (fun j j1 j2 => t1 j (by omega) (by show j < zeN fa lg p; omega)) (G 0 (by omega)) (G 1 (by omega)) (G 2 (by omega)) (G 3 (by omega))
      rw [show zeN fa lg p - p + (lg.length - zeN fa lg p) = lg.length - p by omega] at hb
      have eM : zM4 (zbL fa lg p 0).length (zbL fa lg p 1).length (zbL fa lg p 2).length (zbL fa lg p 3).length = zbM fa lg p := by
        rw [q0, q1, q2, q3]
        rfl
      rw [hb]
      rw [eM]
      have hpos : 0 < zbM fa lg p := zM4_pos _ _ _ _
      have ih : ∀ i, i < zbM fa lg p → zsf f (zgg fa lg (lg.length - zeN fa lg p) (pre ++ zpk (zeN fa lg p - p) (zbL fa lg p 0) (zbL fa lg p 1) (zbL fa lg p 2) (zbL fa lg p 3) i)) = zsr (fun k => f (pre ++ (zpk (zeN fa lg p - p) (zbL fa lg p 0) (zbL fa lg p 1) (zbL fa lg p 2) (zbL fa lg p 3) i ++ zlR fa lg fu (zeN fa lg p) k))) (zpr fa lg fu (zeN fa lg p)) := fun i hi => by
        rw [zgo_all hn hri hno hnd f fu (zeN fa lg p) _ (by omega) e2 (by rw [List.length_append, zpk_len]; omega) (fun u => ?_)]
        · refine zsr_cg _ (fun k _ => ?_)
          rw [List.append_assoc]
        · have hp := zpk_perm (zeN fa lg p - p) (zbL fa lg p 0) (zbL fa lg p 1) (zbL fa lg p 2) (zbL fa lg p 3) i (by omega) (by rw [eM]; exact hi)
          rw [zbL_app hnd (by omega)] at hp
          have ht : lg.take (zeN fa lg p) = lg.take p ++ zsg lg p (zeN fa lg p - p) := by
            have : zeN fa lg p = p + (zeN fa lg p - p) := by omega
            conv => lhs; rw [this]
            rw [List.take_add]
            rfl
          rw [ht, List.mem_append, List.mem_append, h4 u, hp.mem_iff]
      rw [zsr_cg _ ih]
      have := zsr_mul (fun i k => f (pre ++ (zpk (zeN fa lg p - p) (zbL fa lg p 0) (zbL fa lg p 1) (zbL fa lg p 2) (zbL fa lg p 3) i ++ zlR fa lg fu (zeN fa lg p) k))) hpos (zpr fa lg fu (zeN fa lg p))
      rw [← this]
      have e1 : zpr fa lg (fu + 1) p = zbM fa lg p * zpr fa lg fu (zeN fa lg p) := if_neg c
      have e2 : ∀ k, zlR fa lg (fu + 1) p k = zpk (zeN fa lg p - p) (zbL fa lg p 0) (zbL fa lg p 1) (zbL fa lg p 2) (zbL fa lg p 3) (k % zbM fa lg p) ++ zlR fa lg fu (zeN fa lg p) (k / zbM fa lg p) := fun k => if_neg c
      rw [e1]
      exact zsr_cg _ (fun k _ => by rw [e2 k])
end ORQ
