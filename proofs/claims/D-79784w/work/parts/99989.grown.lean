set_option maxRecDepth 100000
/-! the model's constructor: the start -/
/-- the model's fields, some of them new -/
def zMh (fi : Nat → Int32) (r : Nat → Value) : List Value := [r 0, .int (fi 1), .int (fi 2), .int (fi 3), .int (fi 4), .int (fi 5), r 6, r 7, r 8, r 9, r 10, r 11, r 12, .int (fi 13), r 14, .int (fi 15), r 16, r 17, r 18, r 19, .int (fi 20), r 21, r 22, r 23, r 24, r 25, r 26, .int (fi 27), r 28, .int (fi 29), r 30, .int (fi 31), r 32, r 33, .int (fi 34)]
theorem zMh_f {fi : Nat → Int32} {r : Nat → Value} {ad : Nat → Nat} (h : ∀ j, j ∈ zMa → r j = .ref (ad j)) : zMh fi r = zMf fi ad := by
  unfold zMh zMf
  rw [h 0 (by decide), h 6 (by decide), h 7 (by decide), h 8 (by decide), h 9 (by decide), h 10 (by decide), h 11 (by decide), h 12 (by decide), h 14 (by decide), h 16 (by decide), h 17 (by decide), h 18 (by decide), h 19 (by decide), h 21 (by decide), h 22 (by decide), h 23 (by decide), h 24 (by decide), h 25 (by decide), h 26 (by decide), h 28 (by decide), h 30 (by decide), h 32 (by decide), h 33 (by decide)]
theorem zMh_set (fi : Nat → Int32) (r : Nat → Value) (v : Value) (j : Nat) (hj : j ∈ zMa) : (zMh fi r).set j v = zMh fi (fun k => if k = j then v else r k) := by
  simp only [zMa, List.mem_cons, List.not_mem_nil, or_false] at hj
  rcases hj with rfl | rfl | rfl | rfl | rfl | rfl | rfl | rfl | rfl | rfl | rfl | rfl | rfl | rfl | rfl | rfl | rfl | rfl | rfl | rfl | rfl | rfl | rfl <;> rfl
theorem zMh_i (fi : Nat → Int32) (r : Nat → Value) (v : Int32) : (zMh fi r).set 1 (.int v) = zMh (va_up fi 1 v) r := rfl
/-- what is there so far -/
def zMr (S : List Nat) (ad : Nat → Nat) : Nat → Value := fun j => if j ∈ S then .ref (ad j) else .null
theorem zMr_s (S : List Nat) (ad : Nat → Nat) (j a : Nat) : (fun k => if k = j then Value.ref a else zMr S ad k) = zMr (j :: S) (fun k => if k = j then a else ad k) := by
  funext k
  unfold zMr
  by_cases c : k = j
  · rw [if_pos c, if_pos (by rw [c]; exact List.mem_cons_self)]
    show _ = Value.ref (if k = j then a else ad k)
    rw [if_pos c]
  · rw [if_neg c]
    show _ = (if k ∈ j :: S then Value.ref (if k = j then a else ad k) else .null)
    rw [if_neg c]
    by_cases e : k ∈ S
    · rw [if_pos e, if_pos (List.mem_cons_of_mem _ e)]
    · rw [if_neg e, if_neg (fun z => (List.mem_cons.mp z).elim c e)]
section GRW
variable {X : zX} {d : Nat} {m : Nat} {g g0 : zG} {K : Option Value → zG → Prop} {KX : String → zG → Prop}
/-- the model, so far -/
def zBn (m : Nat) (g0 g : zG) (ad : Nat → Nat) (S : List Nat) (fi : Nat → Int32) (n : Nat) : Prop := zGo g 3 m = some (zMh fi (zMr S ad)) ∧ (∀ j ∈ S, zGi g (ztg j) (ad j) = some (zln j, z0a j)) ∧ zFe zPm g0 g ∧ zGz g = zGz g0 + n
theorem cn_arr {N : Nat → zG → Prop} {ad : Nat → Nat} {S : List Nat} {fi : Nat → Int32} {n : Nat} (h : zBn m g0 g ad S fi n) {j t : Nat} {i : Int32} (hj : j ∈ zMa) (hjS : j ∉ S) (ht : t = ztg j) (ht2 : zPm (1000 + ztg j)) (hi : ¬ i < 0) (hn : i.toNatClampNeg = zln j) (hn2 : zln j ≤ 1920) (hz : zGz g0 + 9000 ≤ zz X) (hnn : n ≤ 7000)
    (hK : ∀ (a : Nat) (g' : zG), zBn m g0 g' (fun k => if k = j then a else ad k) (j :: S) fi (n + (1 + zln j)) → N a g') :
    ¬ i < 0 ∧ i.toNatClampNeg ≤ 100000 ∧ zGz g + 1 + i.toNatClampNeg ≤ zz X ∧ ∀ a_1 : Nat, zFr g a_1 → ∀ g_2 : zG, g_2 = (zSz (zSi g t a_1 i.toNatClampNeg (fun _ => 0)) (zGz g + 1 + i.toNatClampNeg)) → ∃ (fs_3 : List Value), zGo g_2 3 m = some fs_3 ∧ j < fs_3.length ∧ ∀ g_4 : zG, g_4 = zSo g_2 3 m (fs_3.set j (.ref a_1)) → N a_1 g_4 := by
  obtain ⟨h1, h3, h4, h5⟩ := h
  have hj35 : ∀ j ∈ zMa, j < 35 := by decide
  rw [hn]
  refine ⟨hi, by omega, by omega, fun a hfr g1 e1 => ⟨zMh fi (zMr S ad), by rw [e1]; exact h1, hj35 j hj, fun g2 e2 => hK a g2 ⟨by rw [e2, zSo_o, zup_s, zMh_set _ _ _ _ hj, zMr_s], fun k hk => ?_, ?_, ?_⟩⟩⟩
  · have key : ∀ (b : Nat), zGi g2 (ztg k) b = zup (zGi g) t a (zln j, fun _ => 0) (ztg k) b := fun b => by
      rw [e2, e1]
      rfl
    rw [key]
    show zup _ _ _ _ _ (if k = j then a else ad k) = _
    by_cases c : k = j
    · subst c
      rw [if_pos rfl, ht, zup_s]
      rfl
    · rw [if_neg c]
      have hk' : k ∈ S := (List.mem_cons.mp hk).resolve_left c
      have := h3 k hk'
      rw [zup_a _ _ _ _ (fun z => by rw [z, hfr.2.1] at this; cases this)]
      exact this
  · refine h4.trans ?_
    rw [e2, e1, ht]
    exact ((zFe.si ht2).trans (zFe.sz _)).trans (zFe.so (Or.inl rfl))
  · rw [e2, e1]
    show zGz g + 1 + zln j = _
    omega
theorem mp_born (hok : zOk X) (hm : zGo g 3 m = some (zMh (fun _ => 0) (fun _ => .null))) (hz : zGz g + 9000 ≤ zz X)
    (hK : ∀ (g' : zG) (ad : Nat → Nat), zFe zPm g g' → zMd g' m z0i ad z0a → zGz g' ≤ zGz g + 7000 → K none g') : zCal X (d + 1) yX3_init wX3_init [.ref m] g K KX := by
  have h0 : zBn m g g (fun _ => 0) [] (fun _ => 0) 0 := ⟨hm, fun j hj => (by cases hj), zFe.rf _ _, rfl⟩
  refine mX3_init hok m (fun E C hQ => ?_)
  refine cn_arr h0 (j := 0) (by decide) (by decide) rfl (show zPm (1000 + 0) by unfold zPm; omega) (by decide) rfl (by decide) hz (by decide) (fun a1 g1 h1 => ?_)
  refine ⟨_, h1.1, (show 1 < 35 by decide), fun g_f e_f => ?_⟩
  have hf : zBn m g g_f _ [0] z0i _ := ⟨by rw [e_f, zSo_o, zup_s, zMh_i]; rfl, fun j hj => by rw [e_f]; exact h1.2.1 j hj, h1.2.2.1.trans (by rw [e_f]; exact zFe.so (Or.inl rfl)), by rw [e_f]; exact h1.2.2.2⟩
  refine cn_arr hf (j := 6) (by decide) (by decide) rfl (show zPm (1000 + 6) by unfold zPm; omega) (by decide) rfl (by decide) hz (by decide) (fun a2 g2 h2 => ?_)
  refine bX3_init_25 C hQ _ _ ?_
  refine cn_arr h2 (j := 7) (by decide) (by decide) rfl (show zPm (1000 + 7) by unfold zPm; omega) (by decide) rfl (by decide) hz (by decide) (fun a3 g3 h3 => ?_)
  refine cn_arr h3 (j := 8) (by decide) (by decide) rfl (show zPm (1000 + 8) by unfold zPm; omega) (by decide) rfl (by decide) hz (by decide) (fun a4 g4 h4 => ?_)
  refine cn_arr h4 (j := 9) (by decide) (by decide) rfl (show zPm (1000 + 9) by unfold zPm; omega) (by decide) rfl (by decide) hz (by decide) (fun a5 g5 h5 => ?_)
  refine bX3_init_49 C hQ _ _ ?_
  refine cn_arr h5 (j := 10) (by decide) (by decide) rfl (show zPm (1000 + 10) by unfold zPm; omega) (by decide) rfl (by decide) hz (by decide) (fun a6 g6 h6 => ?_)
  refine cn_arr h6 (j := 11) (by decide) (by decide) rfl (show zPm (1000 + 111) by unfold zPm; omega) (by decide) rfl (by decide) hz (by decide) (fun a7 g7 h7 => ?_)
  refine cn_arr h7 (j := 12) (by decide) (by decide) rfl (show zPm (1000 + 12) by unfold zPm; omega) (by decide) rfl (by decide) hz (by decide) (fun a8 g8 h8 => ?_)
  refine bX3_init_73 C hQ _ _ ?_
  refine cn_arr h8 (j := 14) (by decide) (by decide) rfl (show zPm (1000 + 14) by unfold zPm; omega) (by decide) rfl (by decide) hz (by decide) (fun a9 g9 h9 => ?_)
  refine cn_arr h9 (j := 16) (by decide) (by decide) rfl (show zPm (1000 + 16) by unfold zPm; omega) (by decide) rfl (by decide) hz (by decide) (fun a10 g10 h10 => ?_)
  refine bX3_init_90 C hQ _ _ ?_
  refine cn_arr h10 (j := 17) (by decide) (by decide) rfl (show zPm (1000 + 17) by unfold zPm; omega) (by decide) rfl (by decide) hz (by decide) (fun a11 g11 h11 => ?_)
  refine cn_arr h11 (j := 18) (by decide) (by decide) rfl (show zPm (1000 + 18) by unfold zPm; omega) (by decide) rfl (by decide) hz (by decide) (fun a12 g12 h12 => ?_)
  refine bX3_init_108 C hQ _ _ ?_
  refine cn_arr h12 (j := 19) (by decide) (by decide) rfl (show zPm (1000 + 19) by unfold zPm; omega) (by decide) rfl (by decide) hz (by decide) (fun a13 g13 h13 => ?_)
  refine cn_arr h13 (j := 21) (by decide) (by decide) rfl (show zPm (1000 + 121) by unfold zPm; omega) (by decide) rfl (by decide) hz (by decide) (fun a14 g14 h14 => ?_)
  refine bX3_init_125 C hQ _ _ ?_
  refine cn_arr h14 (j := 22) (by decide) (by decide) rfl (show zPm (1000 + 122) by unfold zPm; omega) (by decide) rfl (by decide) hz (by decide) (fun a15 g15 h15 => ?_)
  refine cn_arr h15 (j := 23) (by decide) (by decide) rfl (show zPm (1000 + 23) by unfold zPm; omega) (by decide) rfl (by decide) hz (by decide) (fun a16 g16 h16 => ?_)
  refine bX3_init_141 C hQ _ _ ?_
  refine cn_arr h16 (j := 24) (by decide) (by decide) rfl (show zPm (1000 + 24) by unfold zPm; omega) (by decide) rfl (by decide) hz (by decide) (fun a17 g17 h17 => ?_)
  refine cn_arr h17 (j := 25) (by decide) (by decide) rfl (show zPm (1000 + 25) by unfold zPm; omega) (by decide) rfl (by decide) hz (by decide) (fun a18 g18 h18 => ?_)
  refine bX3_init_158 C hQ _ _ ?_
  refine cn_arr h18 (j := 26) (by decide) (by decide) rfl (show zPm (1000 + 26) by unfold zPm; omega) (by decide) rfl (by decide) hz (by decide) (fun a19 g19 h19 => ?_)
  refine cn_arr h19 (j := 28) (by decide) (by decide) rfl (show zPm (1000 + 28) by unfold zPm; omega) (by decide) rfl (by decide) hz (by decide) (fun a20 g20 h20 => ?_)
  refine bX3_init_175 C hQ _ _ ?_
  refine cn_arr h20 (j := 30) (by decide) (by decide) rfl (show zPm (1000 + 30) by unfold zPm; omega) (by decide) rfl (by decide) hz (by decide) (fun a21 g21 h21 => ?_)
  refine cn_arr h21 (j := 32) (by decide) (by decide) rfl (show zPm (1000 + 32) by unfold zPm; omega) (by decide) rfl (by decide) hz (by decide) (fun a22 g22 h22 => ?_)
  refine bX3_init_192 C hQ _ _ ?_
  refine cn_arr h22 (j := 33) (by decide) (by decide) rfl (show zPm (1000 + 33) by unfold zPm; omega) (by decide) rfl (by decide) hz (by decide) (fun a23 g23 h23 => ?_)
  obtain ⟨q1, q3, q4, q5⟩ := h23
  have hin : ∀ j ∈ zMa, j ∈ [33, 32, 30, 28, 26, 25, 24, 23, 22, 21, 19, 18, 17, 16, 14, 12, 11, 10, 9, 8, 7, 6, 0] := by decide
  refine hK _ _ q4 ⟨?_, fun j hj => q3 j (hin j hj)⟩ (by rw [q5]; exact Nat.add_le_add_left (by decide) _)
  rw [q1]
  exact congrArg some (zMh_f (fun j hj => if_pos (hin j hj)))
end GRW
