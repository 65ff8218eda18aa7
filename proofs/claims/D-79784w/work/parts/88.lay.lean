set_option maxRecDepth 100000
/-- which events a row of an id takes -/
def zfi (fa : Nat → Nat → Int32) (id : Int32) (v : Nat) : Bool := id == -1 || fa 9 v == id || fa 9 v == -1
section LAY
variable {X : zX} {d : Nat} {g : zG} {K : Option Value → zG → Prop} {KX : String → zG → Prop} {i x rw rl pl ra n : Nat} {rr eo : Nat → Nat} {fa : Nat → Nat → Int32}
/-- what an added event leaves -/
theorem zFm.fe82 {i : Nat} {g g' : zG} (h : zFm (82 + 3 * i) g g') : zFe (zPr i) g g' := (h.fe (by omega)).mono (fun k hk => Or.inl hk)
theorem zEq.fe {i : Nat} {g g' : zG} (h : zEq i g g') : zFe (zPr i) g g' := ⟨fun k _ a fs e => by rw [h.1]; exact e, fun t ht a v e => by rw [h.2.2.2.2 t (fun z => ht (Or.inr (by omega)))]; exact e, fun t _ a v e => by rw [h.2.1]; exact e, h.2.2.1⟩
theorem zob_e {g : zG} {a : Nat} {fs : List Value} (h : zGo g 4 a = some fs) : zob g a := ⟨4, by omega, 4, fs, h, rfl⟩
theorem zr_take {l : List Nat} {k : Nat} (h : k < l.length) : l.take (k + 1) = l.take k ++ [zr l k] := by
  unfold zr
  rw [List.take_add_one, List.getD_eq_getElem?_getD, List.getElem?_eq_getElem h]
  rfl
theorem rp_lay_1 (hok : zOk X) (hi : i < 6) {tl al ql : Nat} {Ls : List Nat} {id : Int32} (htl : 64 ≤ tl) (hne : tl ≠ 82 + 3 * i) (h80 : Ls.length ≤ 80) {g0 : zG} {q0 : Nat} {E : zM} (C : zC X (d + 7) E RX9 cX9_lay 5 none "lay") (hQ : zQ X E K KX) (hz : zGz g0 + q0 + 400 ≤ zz X)
    (hK : ∀ (g' : zG) (q' : Nat), zFe (zPr i) g0 g' → zGz g' + q' ≤ zGz g0 + q0 → zLs X g' (82 + 3 * i) rl ((Ls.filter (zfi fa id)).map eo) q' → zRt X i x rw rl pl ra n rr g' → GW X E 5 g' 88 [(0, .ref rw), (3, .int 0)] []) : ∀ (c k : Nat) (g : zG) (q : Nat), Ls.length = k + c → zFe (zPr i) g0 g → zGz g + q ≤ zGz g0 + q0 → zLs X g (82 + 3 * i) rl (((Ls.take k).filter (zfi fa id)).map eo) q → zRt X i x rw rl pl ra n rr g → zLs X g tl al (Ls.map eo) ql → (∀ v ∈ Ls, zGo g 4 (eo v) = some (zef fa v)) →
    GW X E 5 g 11 [(0, .ref rw), (1, .ref al), (2, .int id), (3, .int (nI k))] []
  | 0, k, g, q, hc, hF, hq, hL, hT, hA, hE => by
    refine bX9_lay_11 (d := d + 6) C hQ g _ _ _ _ ⟨hA.is htl, ls_size hok hA htl ⟨_, rfl, fun _ => ?_, fun z => absurd (show nI ((Ls.map eo).length) ≤ nI k by rw [List.length_map]; exact nI_le (by omega) (by omega)) z⟩⟩
    rw [List.take_of_length_le (by omega)] at hL
    exact hK g q hF hq hL hT
  | c + 1, k, g, q, hc, hF, hq, hL, hT, hA, hE => by
    have hk : k < Ls.length := by omega
    have hev := hE _ (zr_mem hk)
    have key : zr Ls k ∈ Ls := zr_mem hk
    have hl80 : ((((Ls.take k).filter (zfi fa id)).map eo)).length ≤ 200 := by
      rw [List.length_map]
      have := List.length_filter_le (zfi fa id) (Ls.take k)
      rw [List.length_take] at this
      omega
    have tak : zfi fa id (zr Ls k) = true → zCal X (d + 6) yJ2_add wJ2_add [.ref rl, .ref (eo (zr Ls k))] g (fun r g_8 => ∃ v_9 : Int32, r = some (.int v_9) ∧ zbo v_9 ∧ GW X E 5 g_8 11 [(0, .ref rw), (1, .ref al), (2, .int id), (3, .int (nI k + 1))] []) KX := by
      intro ht
      refine ls_add hok hL (by omega) (zob_e hev) (fun y hy => ?_) hl80 (by omega) (fun g' q' b1 b2 b3 => ⟨_, rfl, Or.inr rfl, ?_⟩)
      · obtain ⟨v, hv, rfl⟩ := List.mem_map.mp hy
        exact zob_e (hE v (List.mem_of_mem_take (List.mem_filter.mp hv).1))
      · rw [← nI_succ]
        have f1 := b2.fe82
        refine rp_lay_1 hok hi htl hne h80 C hQ hz hK c (k + 1) g' q' (by omega) (hF.trans f1) (by omega) ?_ (hT.fe hi (b2.fe (by omega)) (by omega) (by omega)) (hA.fe (b2.fe (by omega)) (by omega)) (fun v hv => (b2.fe (by omega)).1 4 (by omega) _ _ (hE v hv))
        rw [zr_take hk, List.filter_append, List.filter_cons_of_pos ht, List.filter_nil, List.map_append]
        exact b1
    have sk : ¬ zfi fa id (zr Ls k) = true → GW X E 5 g 11 [(0, .ref rw), (1, .ref al), (2, .int id), (3, .int (nI k + 1))] [] := by
      intro ht
      rw [← nI_succ]
      refine rp_lay_1 hok hi htl hne h80 C hQ hz hK c (k + 1) g q (by omega) hF hq ?_ hT hA hE
      rw [zr_take hk, List.filter_append, List.filter_cons_of_neg ht, List.filter_nil, List.append_nil]
      exact hL
    have gt : ∀ {K' : Option Value → zG → Prop}, K' (some (.ref (eo (zr Ls k)))) g → zCal X (d + 6) yJ2_get wJ2_get [.ref al, .int (nI k)] g K' KX := fun h => ls_getm (d := d + 4) hok hA htl hk h
    refine bX9_lay_11 (d := d + 6) C hQ g _ _ _ _ ⟨hA.is htl, ls_size hok hA htl ⟨_, rfl, fun z => absurd z (by rw [List.length_map]; exact nI_ge (by omega) (by omega)), fun _ => ⟨fun c1 => ?_, fun c1 => ⟨hA.is htl, gt ⟨_, rfl, _, rfl, ⟨4, _, hev, rfl⟩, _, _, hev, rfl, fun c2 => ?_, fun c2 => ⟨hA.is htl, gt ⟨_, rfl, _, rfl, ⟨4, _, hev, rfl⟩, _, _, hev, rfl, fun c3 => sk ?_, fun c3 => ?_⟩⟩⟩⟩⟩⟩⟩
    · exact ⟨_, _, hT.1, rfl, hA.is htl, gt ⟨_, rfl, _, rfl, ⟨4, _, hev, rfl⟩, hL.is (by omega), tak (by unfold zfi; simp [c1])⟩⟩
    · exact ⟨_, _, hT.1, rfl, hA.is htl, gt ⟨_, rfl, _, rfl, ⟨4, _, hev, rfl⟩, hL.is (by omega), tak (by unfold zfi; simp [c2])⟩⟩
    · unfold zfi
      simp [c1, c2, c3]
    · exact ⟨_, _, hT.1, rfl, hA.is htl, gt ⟨_, rfl, _, rfl, ⟨4, _, hev, rfl⟩, hL.is (by omega), tak (by unfold zfi; simp [c3])⟩⟩
/-- lay: the row takes the events of the id, all cells are unknown -/
theorem rp_lay (hok : zOk X) (hi : i < 6) (h24 : n ≤ 24) (hrr : ∀ p q : Nat, p < n → q < n → rr p = rr q → p = q) {tl al ql : Nat} {Ls l0 : List Nat} {id : Int32} (htl : 64 ≤ tl) (hne : tl ≠ 82 + 3 * i) (h80 : Ls.length ≤ 80) {q0 : Nat} (hz : zGz g + q0 + 400 ≤ zz X) {D : Nat} (hD : 7 ≤ D)
    (hL : zLs X g (82 + 3 * i) rl l0 q0) (hT : zRt X i x rw rl pl ra n rr g) (hA : zLs X g tl al (Ls.map eo) ql) (hE : ∀ v ∈ Ls, zGo g 4 (eo v) = some (zef fa v))
    (hK : ∀ (g' : zG) (q' : Nat) (F : Nat → Nat → Int32), zFe (zPr i) g g' → zGz g' + q' ≤ zGz g + q0 → zLs X g' (82 + 3 * i) rl ((Ls.filter (zfi fa id)).map eo) q' → zRt X i x rw rl pl ra n rr g' → (∀ p, p < n → zGi g' (52 + i) (rr p) = some (80, F p) ∧ ∀ k, k < (Ls.filter (zfi fa id)).length → F p k = -1) → K none g') : zCal X D yX9_lay wX9_lay [.ref rw, .ref al, .int id] g K KX := by
  obtain ⟨d, rfl⟩ : ∃ d, D = d + 7 := ⟨D - 7, by omega⟩
  refine mX9_lay (d := d + 6) hok rw al id (fun E C hQ => ⟨_, _, hT.1, rfl, hL.is (by omega), ls_clear hok hL (by omega) (fun g1 b1 b2 => ⟨rfl, ?_⟩)⟩)
  have hz1 : zGz g1 = zGz g := b2.2.2
  have f1 := b2.fe (by omega)
  rw [show (0 : Int32) = nI 0 from nI_0.symm]
  refine rp_lay_1 (d := d) (n := n) (g0 := g1) (q0 := q0) hok hi htl hne h80 C hQ (by omega) (fun g2 q2 e1 e2 e3 e4 => ?_) Ls.length 0 g1 q0 (by omega) (zFe.rf _ _) (Nat.le_refl _) b1 (hT.fe hi f1 (by omega) (by omega)) (hA.fe f1 (by omega)) (fun v hv => f1.1 4 (by omega) _ _ (hE v hv))
  rw [show (0 : Int32) = nI 0 from nI_0.symm]
  refine (rp_lay_c (d := d + 6) (g0 := g2) hok hi h24 (R := Ls.filter (zfi fa id)) (Nat.le_trans (List.length_filter_le _ _) h80) hrr (q := q2) C hQ (fun g' c1 c2 c3 => ?_) n 0 _ 0 g2 (by omega) (Nat.zero_add _).symm (zEq.rf _ _) e3 e4 (fun p' hp' => absurd hp' (Nat.not_lt_zero p')) (fun hp => ?_)).1 rfl
  · obtain ⟨F, hF⟩ := c3
    exact hK g' q2 F ((b2.1.fe82.trans e1).trans c1.fe) (by rw [c1.2.2.2.1]; omega) (e3.eq c1) c2 hF
  · obtain ⟨F, a⟩ := e4.2.2 0 hp
    exact ⟨F, a, fun k' hk' => absurd hk' (Nat.not_lt_zero k')⟩
end LAY
