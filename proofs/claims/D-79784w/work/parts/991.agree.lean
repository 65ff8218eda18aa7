set_option maxRecDepth 100000
/-- the numbers that the class's things rest on are the same -/
def zAg (fi : Nat → Int32) (fa : Nat → Nat → Int32) (fi' : Nat → Int32) (fa' : Nat → Nat → Int32) (n M P : Nat) (np sz : Nat → Nat) : Prop :=
  (fi' 1 = fi 1 ∧ fi' 2 = fi 2 ∧ fi' 4 = fi 4 ∧ fi' 5 = fi 5) ∧ fa' 0 = fa 0 ∧ (∀ j : Nat, 6 ≤ j → j ≤ 11 → ∀ v : Nat, v < n → fa' j v = fa j v) ∧ (∀ j : Nat, 16 ≤ j → j ≤ 19 → (∀ p : Nat, p < zsum sz P → fa' j p = fa j p) ∧ ∀ i p : Nat, i < M → p < np i → fa' j (192 + 24 * i + p) = fa j (192 + 24 * i + p)) ∧
  (∀ i : Nat, i < M → fa' 21 i = fa 21 i ∧ fa' 22 i = fa 22 i ∧ fa' 24 i = fa 24 i ∧ ∀ v : Nat, v < n → fa' 25 (80 * i + v) = fa 25 (80 * i + v) ∧ fa' 26 (80 * i + v) = fa 26 (80 * i + v))
theorem zxs_c {ad : Nat → Nat} {fi fi' : Nat → Int32} (h : fi' 1 = fi 1 ∧ fi' 2 = fi 2 ∧ fi' 4 = fi 4 ∧ fi' 5 = fi 5) : zxs ad fi' = zxs ad fi := by
  unfold zxs
  rw [h.1, h.2.1, h.2.2.1, h.2.2.2]
theorem zef_c {fa fa' : Nat → Nat → Int32} {n v : Nat} (h : ∀ j : Nat, 6 ≤ j → j ≤ 11 → ∀ v : Nat, v < n → fa' j v = fa j v) (hv : v < n) : zef fa' v = zef fa v := by
  unfold zef
  rw [h 7 (by omega) (by omega) v hv, h 6 (by omega) (by omega) v hv, h 8 (by omega) (by omega) v hv, h 9 (by omega) (by omega) v hv, h 10 (by omega) (by omega) v hv, h 11 (by omega) (by omega) v hv]
theorem zff_c {X : zX} {fa fa' : Nat → Nat → Int32} {base n p : Nat} {fo : Nat → Nat} {s : Int32} (h : ∀ j : Nat, 16 ≤ j → j ≤ 19 → ∀ p : Nat, p < n → fa' j (base + p) = fa j (base + p)) (hp : p < n) : zff X fa' base fo p s = zff X fa base fo p s := by
  unfold zff zfp1 zfp2 zf1
  rw [h 16 (by omega) (by omega) p hp, h 17 (by omega) (by omega) p hp, h 18 (by omega) (by omega) p hp, h 19 (by omega) (by omega) p hp, h 19 (by omega) (by omega) (p - 1) (by omega)]
theorem zEk_c {fa fa' : Nat → Nat → Int32} {kd : Int32} : ∀ {n : Nat}, (∀ j : Nat, 6 ≤ j → j ≤ 11 → ∀ v : Nat, v < n → fa' j v = fa j v) → zEk fa' kd n = zEk fa kd n
  | 0, _ => rfl
  | n + 1, h => by
    show zEk fa' kd n ++ (if fa' 8 n = kd then [((fa' 7 n).toNatClampNeg, fa' 10 n)] else []) = _
    rw [zEk_c (n := n) (fun j h1 h2 v hv => h j h1 h2 v (by omega)), h 8 (by omega) (by omega) n (by omega), h 7 (by omega) (by omega) n (by omega), h 10 (by omega) (by omega) n (by omega)]
    rfl
section AGR
variable {X : zX} {x : Nat} {ad fo eo : Nat → Nat} {mo : Nat → Nat → Nat} {c : Nat → Nat × Nat × Nat} {pt : Nat → Nat} {fi fi' : Nat → Int32} {fa fa' : Nat → Nat → Int32} {lg : List Nat} {M P : Nat} {np sz : Nat → Nat} {g : zG}
theorem zKn.cg {i a m : Nat} {kp sc kp' sc' : Nat → Int32} {p : Nat} (h : zKn X i a m kp sc p g) (h1 : ∀ v, v < m → kp' v = kp v) (h2 : ∀ v, v < m → sc' v = sc v) : zKn X i a m kp' sc' p g := by
  obtain ⟨l, a1, a2, a3⟩ := h
  exact ⟨l, a1, a2, fun v hv => by rw [h1 v hv, h2 v hv]; exact a3 v hv⟩
theorem zMs.cg {i np : Nat} {mo fo : Nat → Nat} {t : Int32} (h : zMs X i x ad mo fo np t fi fa g) (h0 : fi' 1 = fi 1 ∧ fi' 2 = fi 2 ∧ fi' 4 = fi 4 ∧ fi' 5 = fi 5) (h1 : ∀ j : Nat, 16 ≤ j → j ≤ 19 → ∀ p : Nat, p < np → fa' j (192 + 24 * i + p) = fa j (192 + 24 * i + p)) (h2 : fa' 21 i = fa 21 i) (h3 : fa' 22 i = fa 22 i) : zMs X i x ad mo fo np t fi' fa' g := by
  obtain ⟨a1, a2, a3, a4, a5⟩ := h
  exact ⟨by rw [h2, h3]; exact a1, by rw [zxs_c h0]; exact a2, a3, fun p hp => by rw [zff_c h1 hp]; exact a4 p hp, a5⟩
theorem zWm.cg {i n np : Nat} {mo : Nat → Nat} (h : zWm X x ad mo fo pt fi fa n np i g) (h0 : fi' 1 = fi 1 ∧ fi' 2 = fi 2 ∧ fi' 4 = fi 4 ∧ fi' 5 = fi 5) (h1 : ∀ j : Nat, 16 ≤ j → j ≤ 19 → ∀ p : Nat, p < np → fa' j (192 + 24 * i + p) = fa j (192 + 24 * i + p)) (h2 : fa' 21 i = fa 21 i ∧ fa' 22 i = fa 22 i ∧ fa' 24 i = fa 24 i ∧ ∀ v : Nat, v < n → fa' 25 (80 * i + v) = fa 25 (80 * i + v) ∧ fa' 26 (80 * i + v) = fa 26 (80 * i + v)) : zWm X x ad mo fo pt fi' fa' n np i g := by
  obtain ⟨a1, a2, a3⟩ := h
  refine ⟨?_, a2, a3.cg (fun v hv => (h2.2.2.2 v hv).1) (fun v hv => (h2.2.2.2 v hv).2)⟩
  rw [h2.2.2.1]
  exact a1.cg h0 h1 h2.1 h2.2.1
theorem zWb.cg (h : zWb X x ad fo eo mo c pt fi fa lg M P sz g) (hlg : ∀ v ∈ lg, v < lg.length) (h0 : fi' 1 = fi 1 ∧ fi' 2 = fi 2 ∧ fi' 4 = fi 4 ∧ fi' 5 = fi 5) (h1 : fa' 0 = fa 0) (h2 : ∀ j : Nat, 6 ≤ j → j ≤ 11 → ∀ v : Nat, v < lg.length → fa' j v = fa j v) (h3 : ∀ j : Nat, 16 ≤ j → j ≤ 19 → ∀ p : Nat, p < zsum sz P → fa' j p = fa j p) : zWb X x ad fo eo mo c pt fi' fa' lg M P sz g := by
  obtain ⟨a1, a2, a3, a4, ⟨l, l1, l2, l3⟩, a6, a7, a8, a9, a10⟩ := h
  refine ⟨by rw [zxs_c h0]; exact a1, by rw [h1]; exact a2, ⟨a3.1, fun v hv => by rw [zef_c h2 hv]; exact a3.2 v hv⟩, ⟨a4.1, fun v hv => by rw [zef_c h2 (hlg v hv)]; exact a4.2 v hv⟩, ⟨l, l1, l2, fun kd hkd => by rw [zEk_c h2]; exact l3 kd hkd⟩, a6, a7, a8, a9, fun q hq => ?_⟩
  obtain ⟨s, hs⟩ := a10 q hq
  have e : zff X fa' 0 fo q s = zff X fa 0 fo q s := zff_c (n := zsum sz P) (fun j j1 j2 p hp => by
    rw [Nat.zero_add]
    exact h3 j j1 j2 p hp) hq
  exact ⟨s, by rw [e]; exact hs⟩
theorem zWd.cg (h : zWd X x ad fo eo mo c pt fi fa lg M P np sz g) (hlg : ∀ v ∈ lg, v < lg.length) (hA : zAg fi fa fi' fa' lg.length M P np sz) : zWd X x ad fo eo mo c pt fi' fa' lg M P np sz g := by
  obtain ⟨h0, h1, h2, h3, h4⟩ := hA
  exact ⟨h.1.cg hlg h0 h1 h2 (fun j j1 j2 => (h3 j j1 j2).1), fun i hi => (h.2 i hi).cg h0 (fun j j1 j2 p hp => (h3 j j1 j2).2 i p hi hp) (h4 i hi)⟩
/-- nothing but what is for looking changes, and the code of the exception -/
def zQs (fi : Nat → Int32) (fa : Nat → Nat → Int32) (fi' : Nat → Int32) (fa' : Nat → Nat → Int32) : Prop := (∀ j : Nat, j ≠ 27 → j ≠ 29 → j ≠ 31 → j ≠ 34 → fi' j = fi j) ∧ ∀ j : Nat, j ≠ 28 → j ≠ 30 → j ≠ 32 → j ≠ 33 → fa' j = fa j
theorem zQs.rf (fi : Nat → Int32) (fa : Nat → Nat → Int32) : zQs fi fa fi fa := ⟨fun _ _ _ _ _ => rfl, fun _ _ _ _ _ => rfl⟩
theorem zQs.f34 (fi : Nat → Int32) (fa : Nat → Nat → Int32) (v : Int32) : zQs fi fa (va_up fi 34 v) fa := ⟨fun _ _ _ _ h => va_up_ne _ _ h, fun _ _ _ _ _ => rfl⟩
theorem zSc.qs {v : Int32} (h : zSc (va_up fi 34 v) fa fi' fa') : zQs fi fa fi' fa' := ⟨fun j h1 h2 h3 h4 => (h.1 j h1 h2 h3).trans (va_up_ne _ _ h4), h.2⟩
theorem zSc.qs' (h : zSc fi fa fi' fa') : zQs fi fa fi' fa' := ⟨fun j h1 h2 h3 _ => h.1 j h1 h2 h3, h.2⟩
theorem zQs.trans {fi'' : Nat → Int32} {fa'' : Nat → Nat → Int32} (h : zQs fi fa fi' fa') (h' : zQs fi' fa' fi'' fa'') : zQs fi fa fi'' fa'' := ⟨fun j h1 h2 h3 h4 => (h'.1 j h1 h2 h3 h4).trans (h.1 j h1 h2 h3 h4), fun j h1 h2 h3 h4 => (h'.2 j h1 h2 h3 h4).trans (h.2 j h1 h2 h3 h4)⟩
theorem zQs.ag (h : zQs fi fa fi' fa') (n M P : Nat) (np sz : Nat → Nat) : zAg fi fa fi' fa' n M P np sz := by
  have f (j : Nat) (h1 : j ≠ 28) (h2 : j ≠ 30) (h3 : j ≠ 32) (h4 : j ≠ 33) : fa' j = fa j := h.2 j h1 h2 h3 h4
  exact ⟨⟨h.1 1 (by decide) (by decide) (by decide) (by decide), h.1 2 (by decide) (by decide) (by decide) (by decide), h.1 4 (by decide) (by decide) (by decide) (by decide), h.1 5 (by decide) (by decide) (by decide) (by decide)⟩, f 0 (by decide) (by decide) (by decide) (by decide), fun j j1 j2 v _ => by rw [f j (by omega) (by omega) (by omega) (by omega)], fun j j1 j2 => ⟨fun p _ => by rw [f j (by omega) (by omega) (by omega) (by omega)], fun i p _ _ => by rw [f j (by omega) (by omega) (by omega) (by omega)]⟩, fun i _ => ⟨by rw [f 21 (by decide) (by decide) (by decide) (by decide)], by rw [f 22 (by decide) (by decide) (by decide) (by decide)], by rw [f 24 (by decide) (by decide) (by decide) (by decide)], fun v _ => ⟨by rw [f 25 (by decide) (by decide) (by decide) (by decide)], by rw [f 26 (by decide) (by decide) (by decide) (by decide)]⟩⟩⟩
/-- zPv rests on these alone -/
theorem zPv.qs (h : zPv fi fa lg M P np sz) (q : zQs fi fa fi' fa') : zPv fi' fa' lg M P np sz := by
  have i1 := q.1 1 (by decide) (by decide) (by decide) (by decide)
  have i3 := q.1 3 (by decide) (by decide) (by decide) (by decide)
  have i5 := q.1 5 (by decide) (by decide) (by decide) (by decide)
  have i13 := q.1 13 (by decide) (by decide) (by decide) (by decide)
  have i15 := q.1 15 (by decide) (by decide) (by decide) (by decide)
  have i20 := q.1 20 (by decide) (by decide) (by decide) (by decide)
  have f0 := q.2 0 (by decide) (by decide) (by decide) (by decide)
  have f6 := q.2 6 (by decide) (by decide) (by decide) (by decide)
  have f7 := q.2 7 (by decide) (by decide) (by decide) (by decide)
  have f8 := q.2 8 (by decide) (by decide) (by decide) (by decide)
  have f9 := q.2 9 (by decide) (by decide) (by decide) (by decide)
  have f10 := q.2 10 (by decide) (by decide) (by decide) (by decide)
  have f11 := q.2 11 (by decide) (by decide) (by decide) (by decide)
  have f12 := q.2 12 (by decide) (by decide) (by decide) (by decide)
  have f14 := q.2 14 (by decide) (by decide) (by decide) (by decide)
  have f16 := q.2 16 (by decide) (by decide) (by decide) (by decide)
  have f17 := q.2 17 (by decide) (by decide) (by decide) (by decide)
  have f18 := q.2 18 (by decide) (by decide) (by decide) (by decide)
  have f19 := q.2 19 (by decide) (by decide) (by decide) (by decide)
  have f23 := q.2 23 (by decide) (by decide) (by decide) (by decide)
  have hans : ∀ i, zAn fi' fa' i (np i) lg lg.length = zAn fi fa i (np i) lg lg.length := fun i => zAn_sa ⟨q.1 2 (by decide) (by decide) (by decide) (by decide), i5, f7, f8, f9, f10, f16, f17, f18, f19, q.2 21 (by decide) (by decide) (by decide) (by decide)⟩
  have f25 := q.2 25 (by decide) (by decide) (by decide) (by decide)
  unfold zPv zLg zMo zSk zLi zri zti zIr zFc zFb zwf zsz at h ⊢
  simp only [hans, f25, i1, i3, i5, i13, i15, i20, f0, f6, f7, f8, f9, f10, f11, f12, f14, f16, f17, f18, f19, f23]
  exact h
end AGR
