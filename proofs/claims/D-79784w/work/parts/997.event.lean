set_option maxRecDepth 100000
/-- the class's things, wherever they lie, and what they have cost at most -/
def zRR (X : zX) (x : Nat) (fi : Nat → Int32) (fa : Nat → Nat → Int32) (lg : List Nat) (M P : Nat) (np sz : Nat → Nat) (B : Nat) (g : zG) : Prop :=
  ∃ (ad fo eo : Nat → Nat) (mo : Nat → Nat → Nat) (c : Nat → Nat × Nat × Nat) (pt : Nat → Nat), zWd X x ad fo eo mo c pt fi fa lg M P np sz g ∧ zWj fo mo M P np sz ∧ zGz g + zpT pt ≤ B
theorem ztk_cg {fa fa' : Nat → Nat → Int32} {ans : Nat → Int32} {i old : Nat} (h24 : fa' 24 = fa 24) (h25 : fa' 25 = fa 25) : ∀ k : Nat, ztk fa' ans i old k = ztk fa ans i old k
  | 0 => by
    show fa' 24 i = fa 24 i
    rw [h24]
  | k + 1 => by
    show ztk fa' ans i old k + (if k < old ∧ ¬ fa' 25 (80 * i + k) = ans k ∧ ¬ fa' 25 (80 * i + k) = 2 then 1 else 0) = _
    rw [ztk_cg h24 h25 k, h25]
    rfl
/-- zPv, when what is put and the monitors stay -/
theorem zPv.cg {fi fi' : Nat → Int32} {fa fa' : Nat → Nat → Int32} {lg lg' : List Nat} {M P : Nat} {np sz : Nat → Nat} (h : zPv fi fa lg M P np sz) (i1 : fi' 1 = fi 1) (i13 : fi' 13 = fi 13) (i15 : fi' 15 = fi 15) (i20 : fi' 20 = fi 20) (f0 : fa' 0 = fa 0) (f14 : fa' 14 = fa 14) (f16 : fa' 16 = fa 16) (f17 : fa' 17 = fa 17) (f18 : fa' 18 = fa 18) (f19 : fa' 19 = fa 19) (f23 : fa' 23 = fa 23)
    (l1 : zLg fi' fa' lg') (l2 : ∀ k : Nat, k < lg'.length → k ∈ lg') (l3 : zLi fi' fa' lg') (l4 : zIr fa' lg'.length) (l5 : ∀ v : Nat, v < lg'.length → (∃ k : Nat, k < 4 ∧ fa' 6 v = nI k) ∧ (∃ k : Nat, k < 8 ∧ fa' 8 v = nI k) ∧ zbo (fa' 11 v)) (l6 : ∀ i v : Nat, i < M → v < lg'.length → fa' 25 (80 * i + v) = zAn fi' fa' i (np i) lg' lg'.length v) : zPv fi' fa' lg' M P np sz := by
  obtain ⟨-, -, h3, h4, -, -, -, h8, h9, h10, h11, h12, -⟩ := h
  refine ⟨l1, l2, ?_, ?_, l3, l4, l5, ?_, ?_, ?_, ?_, ?_, l6⟩
  · unfold zMo zwf zsz at h3 ⊢
    simp only [i20, f16, f19, f23]
    exact h3
  · unfold zSk zwf zsz at h4 ⊢
    simp only [i13, i15, f14, f16, f19]
    exact h4
  · unfold zFc zFb zwf zsz at h8 ⊢
    simp only [f16, f17, f18, f19]
    exact h8
  · unfold zFb at h9 ⊢
    simp only [f16, f18]
    exact h9
  · simp only [f16, f17, f18]
    exact h10
  · simp only [f0]
    exact h11
  · rw [i1]
    exact h12
section EVT
variable {X : zX} {d : Nat} {x : Nat} {ad fo eo : Nat → Nat} {mo : Nat → Nat → Nat} {c : Nat → Nat × Nat × Nat} {pt pt' : Nat → Nat} {fi fi' : Nat → Int32} {fa fa' : Nat → Nat → Int32} {lg : List Nat} {M P : Nat} {np sz : Nat → Nat} {B : Nat} {g g' : zG} {Q : Nat → Prop} {K : Option Value → zG → Prop} {KX : String → zG → Prop}
theorem zRR.fe {B' : Nat} (h : zRR X x fi fa lg M P np sz B g) (hM : M ≤ 6) (e : zFe zPm g g') (hz : zGz g' + B ≤ zGz g + B') : zRR X x fi fa lg M P np sz B' g' := by
  obtain ⟨ad, fo, eo, mo, c, pt, h1, h2, h3⟩ := h
  exact ⟨ad, fo, eo, mo, c, pt, h1.fm hM e, h2, by omega⟩
theorem zRR.up (h : zRR X x fi fa lg M P np sz B g) (hM : M ≤ 6) (k : Nat) : zRR X x fi fa lg M P np sz (B + k) (zSz g (zGz g + k)) := h.fe hM (zFe.sz _) (by show zGz g + k + B ≤ _; omega)
theorem zRR.ag (h : zRR X x fi fa lg M P np sz B g) (hlg : ∀ v ∈ lg, v < lg.length) (hA : zAg fi fa fi' fa' lg.length M P np sz) : zRR X x fi' fa' lg M P np sz B g := by
  obtain ⟨ad, fo, eo, mo, c, pt, h1, h2, h3⟩ := h
  exact ⟨ad, fo, eo, mo, c, pt, h1.cg hlg hA, h2, h3⟩
theorem zRR.mono {B' : Nat} (h : zRR X x fi fa lg M P np sz B g) (hb : B ≤ B') : zRR X x fi fa lg M P np sz B' g := by
  obtain ⟨ad, fo, eo, mo, c, pt, h1, h2, h3⟩ := h
  exact ⟨ad, fo, eo, mo, c, pt, h1, h2, by omega⟩
theorem zWg.kn' {ans : Nat → Int32} {nn : Int32} {i old len : Nat} (h : zWg X x ad (mo i) fo pt fi fa (np i) i (ztk fa ans i old len) len (zkq fa ans i len) (zsq fa ans nn i old len) g) (h0 : fi' 1 = fi 1 ∧ fi' 2 = fi 2 ∧ fi' 4 = fi 4 ∧ fi' 5 = fi 5) (h1 : ∀ j : Nat, 16 ≤ j → j ≤ 19 → fa' j = fa j) (h21 : fa' 21 = fa 21) (h22 : fa' 22 = fa 22) (h24 : fa' 24 i = ztk fa ans i old len) (h25 : ∀ v, v < len → fa' 25 (80 * i + v) = ans v) (h26 : ∀ v, v < len → fa' 26 (80 * i + v) = if old ≤ v ∨ ¬ fa 25 (80 * i + v) = ans v then nn else fa 26 (80 * i + v)) : zWm X x ad (mo i) fo pt fi' fa' len (np i) i g := by
  obtain ⟨a, b, q⟩ := h
  refine ⟨?_, b, q.cg (fun v hv => ?_) (fun v hv => ?_)⟩
  · rw [h24]
    exact a.cg h0 (fun j j1 j2 p _ => by rw [h1 j j1 j2]) (by rw [h21]) (by rw [h22])
  · show fa' 25 (80 * i + v) = _
    rw [h25 v hv]
    exact (if_pos hv).symm
  · show fa' 26 (80 * i + v) = _
    rw [h26 v hv]
    unfold zsq
    by_cases c : old ≤ v ∨ ¬ fa 25 (80 * i + v) = ans v
    · rw [if_pos c, if_pos ⟨hv, c⟩]
    · rw [if_neg c, if_neg (fun z => c z.2)]
/-- the model's numbers behind an event, in what they are of the old ones -/
theorem zev_n {nd wh kd ix vl : Int32} (h : zev fi fa lg M np nd wh kd ix vl fi' fa') :
    (∀ j, j ≠ 3 → j ≠ 5 → j ≠ 27 → j ≠ 29 → j ≠ 31 → j ≠ 34 → fi' j = fi j) ∧ fi' 5 = (if fi 5 < wh then wh else fi 5) ∧ (∀ j, j ≠ 12 → j ≠ 24 → j ≠ 25 → j ≠ 26 → j ≠ 28 → j ≠ 30 → j ≠ 32 → j ≠ 33 → fa' j = zc2 fa lg.length nd wh kd ix vl (if wh < fi 5 then 1 else 0) j) := by
  obtain ⟨fi1, fa1, ⟨z1, z2, z3⟩, k1, k2, -⟩ := h
  have e5 : (va_up fi 34 0) 5 = fi 5 := va_up_ne _ _ (by decide)
  refine ⟨fun j j1 j2 j3 j4 j5 j6 => ?_, ?_, fun j j1 j2 j3 j4 j5 j6 j7 j8 => ?_⟩
  · rw [k1 j j3 j4 j5, z1]
    unfold zc1
    rw [va_up_ne _ _ j1, va_up_ne _ _ j2, va_up_ne _ _ j6]
  · rw [k1 5 (by decide) (by decide) (by decide), z1]
    unfold zc1
    rw [va_up_ne _ _ (by decide), va_up_self, e5]
  · rw [k2 j j2 j3 j4 j5 j6 j7 j8, z2 j j1, e5]
theorem zPv_ev (hV : zPv fi fa lg M P np sz) (hl : lg.length ≤ 79) {a4 t k8 : Nat} {ix vl : Int32} (h4 : a4 < 4) (ht : t ≤ 11000) (h8 : k8 < 8) (hix : ix = -1 ∨ ∃ k : Nat, k < 10 ∧ ix = nI k) (hvl : -1000 ≤ vl.toInt ∧ vl.toInt ≤ 1000) (h : zev fi fa lg M np (nI a4) (nI t) (nI k8) ix vl fi' fa') : zPv fi' fa' (zlg fa lg (nI a4) (nI t)) M P np sz := by
  obtain ⟨e1, e2, e3⟩ := zev_n h
  obtain ⟨fi1, fa1, zc, k1, k2, k3, -⟩ := h
  have hV0 := hV
  obtain ⟨hLg, hall, -, -, hLi, hIr, hnk, -⟩ := hV
  have hi (j : Nat) (hj : j < 6 ∨ 12 < j) (j2 : j ≠ 24) (j3 : j ≠ 25) (j4 : j ≠ 26) (j5 : j ≠ 28) (j6 : j ≠ 30) (j7 : j ≠ 32) (j8 : j ≠ 33) : fa' j = fa j := by
    rw [e3 j (by omega) j2 j3 j4 j5 j6 j7 j8]
    exact zc2_o _ _ _ _ _ _ _ _ (by omega)
  have mid (j : Nat) (hj : 6 ≤ j ∧ j ≤ 11) : fa' j = zc2 fa lg.length (nI a4) (nI t) (nI k8) ix vl (if nI t < fi 5 then 1 else 0) j := e3 j (by omega) (by omega) (by omega) (by omega) (by omega) (by omega) (by omega) (by omega)
  have old : ∀ j v, 6 ≤ j ∧ j ≤ 11 → v < lg.length → fa' j v = fa j v := fun j v hj hv => by
    rw [mid j hj]
    exact zc2_v _ _ _ _ _ _ _ _ hv
  refine hV0.cg (e1 1 (by decide) (by decide) (by decide) (by decide) (by decide) (by decide)) (e1 13 (by decide) (by decide) (by decide) (by decide) (by decide) (by decide)) (e1 15 (by decide) (by decide) (by decide) (by decide) (by decide) (by decide)) (e1 20 (by decide) (by decide) (by decide) (by decide) (by decide) (by decide)) (hi 0 (by decide) (by decide) (by decide) (by decide) (by decide) (by decide) (by decide) (by decide)) (hi 14 (by decide) (by decide) (by decide) (by decide) (by decide) (by decide) (by decide) (by decide)) (hi 16 (by decide) (by decide) (by decide) (by decide) (by decide) (by decide) (by decide) (by decide)) (hi 17 (by decide) (by decide) (by decide) (by decide) (by decide) (by decide) (by decide) (by decide)) (hi 18 (by decide) (by decide) (by decide) (by decide) (by decide) (by decide) (by decide) (by decide)) (hi 19 (by decide) (by decide) (by decide) (by decide) (by decide) (by decide) (by decide) (by decide)) (hi 23 (by decide) (by decide) (by decide) (by decide) (by decide) (by decide) (by decide) (by decide)) ?_ (zcm_all hall) ?_ ?_ ?_ ?_
  · have hL34 : zLg (va_up fi 34 0) fa lg := by
      obtain ⟨q1, q2⟩ := hLg
      exact ⟨by rw [va_up_ne _ _ (by decide)]; exact q1, q2⟩
    obtain ⟨q1, q2, q3, q4, q5⟩ := zcm_lg hL34 hl zc
    exact ⟨(k1 3 (by decide) (by decide) (by decide)).trans q1, q2, q3, q4, fun k hk => by rw [k2 12 (by decide) (by decide) (by decide) (by decide) (by decide) (by decide) (by decide)]; exact q5 k hk⟩
  · have := zLi_ins (kd := nI k8) (id := ix) (nd := nI a4) (lt := if nI t < fi 5 then 1 else 0) hLi hLg.2.2.2.1 hl ht hvl
    unfold zLi zri zti at this ⊢
    rw [show fi' 5 = zcf fi (nI t) 5 by rw [e2]; unfold zcf; rw [va_up_self], mid 7 (by omega), mid 10 (by omega)]
    exact this
  · intro v hv
    rw [zlg_len] at hv
    by_cases cv : v = lg.length
    · subst cv
      rw [mid 9 (by omega)]
      have e : zc2 fa lg.length (nI a4) (nI t) (nI k8) ix vl (if nI t < fi 5 then 1 else 0) 9 lg.length = ix := by
        unfold zc2 va_up upd
        simp
      rw [e]
      exact hix
    · rw [old 9 v (by omega) (by omega)]
      exact hIr v (by omega)
  · intro v hv
    rw [zlg_len] at hv
    by_cases cv : v = lg.length
    · subst cv
      rw [mid 6 (by omega), mid 8 (by omega), mid 11 (by omega)]
      have e6 : zc2 fa lg.length (nI a4) (nI t) (nI k8) ix vl (if nI t < fi 5 then 1 else 0) 6 lg.length = nI a4 := by
        unfold zc2 va_up upd
        simp
      have e8 : zc2 fa lg.length (nI a4) (nI t) (nI k8) ix vl (if nI t < fi 5 then 1 else 0) 8 lg.length = nI k8 := by
        unfold zc2 va_up upd
        simp
      have e11 : zc2 fa lg.length (nI a4) (nI t) (nI k8) ix vl (if nI t < fi 5 then 1 else 0) 11 lg.length = if nI t < fi 5 then 1 else 0 := by
        unfold zc2 va_up upd
        simp
      rw [e6, e8, e11]
      refine ⟨⟨a4, h4, rfl⟩, ⟨k8, h8, rfl⟩, ?_⟩
      split
      · exact Or.inr rfl
      · exact Or.inl rfl
    · rw [old 6 v (by omega) (by omega), old 8 v (by omega) (by omega), old 11 v (by omega) (by omega)]
      exact hnk v (by omega)
  · intro i v hi' hv
    rw [zlg_len] at hv ⊢
    rw [k3 i v (by omega), if_pos ⟨hi', hv⟩]
    have k (j : Nat) (j2 : j ≠ 24) (j3 : j ≠ 25) (j4 : j ≠ 26) (j5 : j ≠ 28) (j6 : j ≠ 30) (j7 : j ≠ 32) (j8 : j ≠ 33) : fa' j = fa1 j := k2 j j2 j3 j4 j5 j6 j7 j8
    exact (congrFun (zAn_sa ⟨k1 2 (by decide) (by decide) (by decide), k1 5 (by decide) (by decide) (by decide), k 7 (by decide) (by decide) (by decide) (by decide) (by decide) (by decide) (by decide), k 8 (by decide) (by decide) (by decide) (by decide) (by decide) (by decide) (by decide), k 9 (by decide) (by decide) (by decide) (by decide) (by decide) (by decide) (by decide), k 10 (by decide) (by decide) (by decide) (by decide) (by decide) (by decide) (by decide), k 16 (by decide) (by decide) (by decide) (by decide) (by decide) (by decide) (by decide), k 17 (by decide) (by decide) (by decide) (by decide) (by decide) (by decide) (by decide), k 18 (by decide) (by decide) (by decide) (by decide) (by decide) (by decide) (by decide), k 19 (by decide) (by decide) (by decide) (by decide) (by decide) (by decide) (by decide), k 21 (by decide) (by decide) (by decide) (by decide) (by decide) (by decide) (by decide)⟩) v).symm
end EVT
