set_option maxRecDepth 100000
section GTS
variable {X : zX} {d : Nat} {x : Nat} {ad fo eo : Nat → Nat} {mo : Nat → Nat → Nat} {c : Nat → Nat × Nat × Nat} {pt pt' : Nat → Nat} {fi fi' : Nat → Int32} {fa fa' : Nat → Nat → Int32} {lg : List Nat} {M P : Nat} {np sz : Nat → Nat} {B : Nat} {g g' : zG} {Q : Nat → Prop} {K : Option Value → zG → Prop} {KX : String → zG → Prop}
theorem cx_its (hok : zOk X) (hV : zPv fi fa lg M P np sz) (hW : zWd X x ad fo eo mo c pt fi fa lg M P np sz g) (hz : zGz g + 100 ≤ zz X) {v : Int32} {D : Nat} (hD : 8 ≤ D)
    (h1 : ∀ j : Nat, j < lg.length → v = nI j → zGo g 4 (eo j) = some (zef fa j) → K (some (.ref (eo j))) g) (hx : zIn v 0 (nI lg.length - 1) = 0 → KX RJ9 (zSz g (zGz g + 7))) : zCal X D yX1_its wX1_its [.ref x, .int v] g K KX := by
  obtain ⟨d, rfl⟩ : ∃ d, D = d + 8 := ⟨D - 8, by omega⟩
  obtain ⟨w1, -, w3, -⟩ := hW.1
  have h80 := hV.1.2.1
  refine mX1_its (d := d + 7) hok x v ⟨_, _, w1, rfl, w3.1.is (by omega), ls_size hok w3.1 (by omega) ⟨_, rfl, ?_⟩⟩
  rw [List.length_map, List.length_range]
  refine cx_isIn hok ⟨_, rfl, zIn_bo _ _ _, sp_place (d := d + 1) hok (fun n1 => ⟨rfl, _, _, w1, rfl, w3.1.is (by omega), ?_⟩) (fun c1 => ⟨by omega, hx c1⟩)⟩
  obtain ⟨j, hj, rfl⟩ := zIn_n (by omega) n1
  have hev := w3.2 j hj
  refine ls_getm (d := d + 5) hok w3.1 (by omega) (by rw [List.length_range]; exact hj) ?_
  rw [zr_range hj]
  exact ⟨_, rfl, _, rfl, ⟨4, _, hev, rfl⟩, h1 j hj rfl hev⟩
theorem cx_monitor (hok : zOk X) (hV : zPv fi fa lg M P np sz) (hW : zWd X x ad fo eo mo c pt fi fa lg M P np sz g) (hz : zGz g + 100 ≤ zz X) {v : Int32} {D : Nat} (hD : 8 ≤ D)
    (h1 : ∀ j : Nat, j < M → v = nI j → zWm X x ad (mo j) fo pt fi fa lg.length (np j) j g → K (some (.ref (mo j 0))) g) (hx : zIn v 0 (nI M - 1) = 0 → KX RJ9 (zSz g (zGz g + 7))) : zCal X D yX1_monitor wX1_monitor [.ref x, .int v] g K KX := by
  obtain ⟨d, rfl⟩ : ∃ d, D = d + 8 := ⟨D - 8, by omega⟩
  obtain ⟨w1, -, -, -, -, -, w7, -⟩ := hW.1
  have hM6 := hV.2.2.1.1
  refine mX1_monitor (d := d + 7) hok x v ⟨_, _, w1, rfl, w7.is (by omega), ls_size hok w7 (by omega) ⟨_, rfl, ?_⟩⟩
  rw [List.length_map, List.length_range]
  refine cx_isIn hok ⟨_, rfl, zIn_bo _ _ _, sp_place (d := d + 1) hok (fun n1 => ⟨rfl, _, _, w1, rfl, w7.is (by omega), ?_⟩) (fun c1 => ⟨by omega, hx c1⟩)⟩
  obtain ⟨j, hj, rfl⟩ := zIn_n (by omega) n1
  have hm := hW.2 j hj
  refine ls_getm (d := d + 5) hok w7 (by omega) (by rw [List.length_range]; exact hj) ?_
  rw [zr_range hj]
  exact ⟨_, rfl, _, rfl, ⟨8, _, hm.1.1, rfl⟩, h1 j hj rfl hm⟩
theorem cs_events (hok : zOk X) (hR : zRR X x fi fa lg M P np sz B g) {D : Nat} (hD : 2 ≤ D) (hK : K (some (.int (nI lg.length))) g) : zCal X D yX1_events wX1_events [.ref x] g K KX := by
  obtain ⟨d, rfl⟩ : ∃ d, D = d + 1 := ⟨D - 1, by omega⟩
  obtain ⟨ad, fo, eo, mo, c, pt, hW, -, -⟩ := hR
  obtain ⟨w1, -, w3, -⟩ := hW.1
  refine mX1_events (d := d) hok x ⟨_, _, w1, rfl, w3.1.is (by omega), ls_size hok w3.1 (by omega) ⟨_, rfl, ?_⟩⟩
  rw [List.length_map, List.length_range]
  exact hK
theorem cs_dropped (hok : zOk X) (hR : zRR X x fi fa lg M P np sz B g) (hK : K (some (.int (fi 4))) g) : zCal X d yX1_dropped wX1_dropped [.ref x] g K KX := by
  obtain ⟨ad, fo, eo, mo, c, pt, hW, -, -⟩ := hR
  exact mX1_dropped hok x ⟨_, _, hW.1.1, rfl, hK⟩
theorem cs_present (hok : zOk X) (hR : zRR X x fi fa lg M P np sz B g) (hK : K (some (.int (fi 5))) g) : zCal X d yX1_present wX1_present [.ref x] g K KX := by
  obtain ⟨ad, fo, eo, mo, c, pt, hW, -, -⟩ := hR
  exact mX1_present hok x ⟨_, _, hW.1.1, rfl, hK⟩
theorem cs_eventAt (hok : zOk X) (hV : zPv fi fa lg M P np sz) (hR : zRR X x fi fa lg M P np sz B g) (hB : B + 3000 ≤ zz X) {v : Int32} {D : Nat} (hD : 120 ≤ D)
    (h1 : ∀ j : Nat, j < lg.length → v = nI j → K (some (.int (fa 12 j))) g) (hx : zIn v 0 (nI lg.length - 1) = 0 → KX RJ9 (zSz g (zGz g + 7))) : zCal X D yX1_eventAt wX1_eventAt [.ref x, .int v] g K KX := by
  obtain ⟨d, rfl⟩ : ∃ d, D = d + 8 := ⟨D - 8, by omega⟩
  obtain ⟨ad, fo, eo, mo, c, pt, hW, hJ, hz⟩ := hR
  obtain ⟨w1, -, w3, w4, -⟩ := hW.1
  have hLg := hV.1
  have h80 := hLg.2.1
  refine mX1_eventAt (d := d + 7) hok x v ⟨_, _, w1, rfl, w4.1.is (by omega), ls_size hok w4.1 (by omega) ⟨_, rfl, ?_⟩⟩
  rw [List.length_map]
  refine cx_isIn hok ⟨_, rfl, zIn_bo _ _ _, sp_place (d := d + 1) hok (fun n1 => ⟨rfl, _, _, w1, rfl, w4.1.is (by omega), ?_⟩) (fun c1 => ⟨by omega, hx c1⟩)⟩
  obtain ⟨j, hj, rfl⟩ := zIn_n (by omega) n1
  have hev := w4.2 _ (zr_mem hj)
  refine ls_getm (d := d + 5) hok w4.1 (by omega) hj ⟨_, rfl, _, rfl, ⟨4, _, hev, rfl⟩, _, _, hev, rfl, ?_⟩
  have := h1 j hj rfl
  rw [hLg.2.2.2.2 j hj] at this
  exact this
theorem cs_timeOf (hok : zOk X) (hV : zPv fi fa lg M P np sz) (hR : zRR X x fi fa lg M P np sz B g) (hB : B + 3000 ≤ zz X) {v : Int32} {D : Nat} (hD : 120 ≤ D)
    (h1 : ∀ j : Nat, j < lg.length → v = nI j → K (some (.int (fa 7 j))) g) (hx : zIn v 0 (nI lg.length - 1) = 0 → KX RJ9 (zSz g (zGz g + 7))) : zCal X D yX1_timeOf wX1_timeOf [.ref x, .int v] g K KX := by
  obtain ⟨d, rfl⟩ : ∃ d, D = d + 1 := ⟨D - 1, by omega⟩
  obtain ⟨ad, fo, eo, mo, c, pt, hW, hJ, hz⟩ := hR
  exact mX1_timeOf (d := d) hok x v ⟨⟨1, _, hW.1.1, rfl⟩, cx_its hok hV hW (by omega) (by omega) (fun j hj e hev => ⟨_, rfl, _, _, hev, rfl, h1 j hj e⟩) hx⟩
theorem cs_isLate (hok : zOk X) (hV : zPv fi fa lg M P np sz) (hR : zRR X x fi fa lg M P np sz B g) (hB : B + 3000 ≤ zz X) {v : Int32} {D : Nat} (hD : 120 ≤ D)
    (h1 : ∀ j : Nat, j < lg.length → v = nI j → K (some (.int (if fa 11 j = 0 then 0 else 1))) g) (hx : zIn v 0 (nI lg.length - 1) = 0 → KX RJ9 (zSz g (zGz g + 7))) : zCal X D yX1_isLate wX1_isLate [.ref x, .int v] g K KX := by
  obtain ⟨d, rfl⟩ : ∃ d, D = d + 1 := ⟨D - 1, by omega⟩
  obtain ⟨ad, fo, eo, mo, c, pt, hW, hJ, hz⟩ := hR
  refine mX1_isLate (d := d) hok x v ⟨⟨1, _, hW.1.1, rfl⟩, cx_its hok hV hW (by omega) (by omega) (fun j hj e hev => ⟨_, rfl, _, _, hev, rfl, (hV.2.2.2.2.2.2.1 j hj).2.2, ?_⟩) hx⟩
  have := h1 j hj e
  have hb := (hV.2.2.2.2.2.2.1 j hj).2.2
  have e2 : (if fa 11 j = 0 then (0 : Int32) else 1) = fa 11 j := by
    rcases hb with z | z
    · rw [if_pos z, z]
    · rw [z]
      decide
  rw [e2] at this
  exact this
theorem cs_answer (hok : zOk X) (hV : zPv fi fa lg M P np sz) (hR : zRR X x fi fa lg M P np sz B g) (hB : B + 3000 ≤ zz X) {v w : Int32} {D : Nat} (hD : 120 ≤ D)
    (h1 : ∀ i e : Nat, i < M → e < lg.length → v = nI i → w = nI e → K (some (.int (fa 25 (80 * i + e)))) g) (hx : zIn v 0 (nI M - 1) = 0 ∨ zIn w 0 (nI lg.length - 1) = 0 → KX RJ9 (zSz g (zGz g + 7))) : zCal X D yX1_answer wX1_answer [.ref x, .int v, .int w] g K KX := by
  obtain ⟨d, rfl⟩ : ∃ d, D = d + 3 := ⟨D - 3, by omega⟩
  obtain ⟨ad, fo, eo, mo, c, pt, hW, hJ, hz⟩ := hR
  refine mX1_answer (d := d + 2) hok x v w ⟨⟨1, _, hW.1.1, rfl⟩, cx_monitor hok hV hW (by omega) (by omega) (fun i hi e hm => ⟨_, rfl, ⟨1, _, hW.1.1, rfl⟩, cx_its hok hV hW (by omega) (by omega) (fun j hj e2 hev => ?_) (fun z => hx (Or.inr z))⟩) (fun z => hx (Or.inl z))⟩
  subst e e2
  obtain ⟨m1, m2, l, l1, l2, l3⟩ := hm
  obtain ⟨j1, j2, p1, p2, p3, p4, p5⟩ := l3 j hj
  refine ⟨_, rfl, _, _, m1.1, rfl, l2.is (by omega), ls_get (d := d) hok l2 (by omega) (show j < l.length by omega) ?_⟩
  rw [← zr_el (by omega)]
  refine ⟨_, rfl, _, rfl, ⟨6, _, p5, rfl⟩, _, _, p5, rfl, ⟨j1 + 128, by omega, rfl⟩, j1 + 128, by omega, rfl, fun v15 e15 => ?_⟩
  rw [vb_j, ← p3] at e15
  subst e15
  exact h1 i j hi hj rfl rfl
theorem cs_knownSince (hok : zOk X) (hV : zPv fi fa lg M P np sz) (hR : zRR X x fi fa lg M P np sz B g) (hB : B + 3000 ≤ zz X) {v w : Int32} {D : Nat} (hD : 120 ≤ D)
    (h1 : ∀ i e : Nat, i < M → e < lg.length → v = nI i → w = nI e → K (some (.int (fa 26 (80 * i + e)))) g) (hx : zIn v 0 (nI M - 1) = 0 ∨ zIn w 0 (nI lg.length - 1) = 0 → KX RJ9 (zSz g (zGz g + 7))) : zCal X D yX1_knownSince wX1_knownSince [.ref x, .int v, .int w] g K KX := by
  obtain ⟨d, rfl⟩ : ∃ d, D = d + 3 := ⟨D - 3, by omega⟩
  obtain ⟨ad, fo, eo, mo, c, pt, hW, hJ, hz⟩ := hR
  refine mX1_knownSince (d := d + 2) hok x v w ⟨⟨1, _, hW.1.1, rfl⟩, cx_monitor hok hV hW (by omega) (by omega) (fun i hi e hm => ⟨_, rfl, ⟨1, _, hW.1.1, rfl⟩, cx_its hok hV hW (by omega) (by omega) (fun j hj e2 hev => ?_) (fun z => hx (Or.inr z))⟩) (fun z => hx (Or.inl z))⟩
  subst e e2
  obtain ⟨m1, m2, l, l1, l2, l3⟩ := hm
  obtain ⟨j1, j2, p1, p2, p3, p4, p5⟩ := l3 j hj
  refine ⟨_, rfl, _, _, m1.1, rfl, l2.is (by omega), ls_get (d := d) hok l2 (by omega) (show j < l.length by omega) ?_⟩
  rw [← zr_el (by omega)]
  refine ⟨_, rfl, _, rfl, ⟨6, _, p5, rfl⟩, _, _, p5, rfl, ⟨j2 + 128, by omega, rfl⟩, j2 + 128, by omega, rfl, fun v15 e15 => ?_⟩
  rw [vb_j, ← p4] at e15
  subst e15
  exact h1 i j hi hj rfl rfl
theorem cs_takenBack (hok : zOk X) (hV : zPv fi fa lg M P np sz) (hR : zRR X x fi fa lg M P np sz B g) (hB : B + 3000 ≤ zz X) {v : Int32} {D : Nat} (hD : 120 ≤ D)
    (h1 : ∀ j : Nat, j < M → v = nI j → K (some (.int (fa 24 j))) g) (hx : zIn v 0 (nI M - 1) = 0 → KX RJ9 (zSz g (zGz g + 7))) : zCal X D yX1_takenBack wX1_takenBack [.ref x, .int v] g K KX := by
  obtain ⟨d, rfl⟩ : ∃ d, D = d + 1 := ⟨D - 1, by omega⟩
  obtain ⟨ad, fo, eo, mo, c, pt, hW, hJ, hz⟩ := hR
  exact mX1_takenBack (d := d) hok x v ⟨⟨1, _, hW.1.1, rfl⟩, cx_monitor hok hV hW (by omega) (by omega) (fun j hj e hm => ⟨_, rfl, _, _, hm.1.1, rfl, h1 j hj e⟩) hx⟩
/-- back and ahead -/
theorem cs_back (hok : zOk X) (hV : zPv fi fa lg M P np sz) (hR : zRR X x fi fa lg M P np sz B g) (hB : B + 3000 ≤ zz X) {v : Int32} {D : Nat} (hD : 120 ≤ D)
    (h1 : ∀ i : Nat, i < M → v = nI i → K (some (.int (zlV fa (192 + 24 * i) true (np i - 1)))) g) (hx : zIn v 0 (nI M - 1) = 0 → KX RJ9 (zSz g (zGz g + 7))) : zCal X D yX1_back wX1_back [.ref x, .int v] g K KX := by
  obtain ⟨d, rfl⟩ : ∃ d, D = d + 1 := ⟨D - 1, by omega⟩
  obtain ⟨ad, fo, eo, mo, c, pt, hW, hJ, hz⟩ := hR
  refine mX1_back (d := d) hok x v ⟨⟨1, _, hW.1.1, rfl⟩, cx_monitor hok hV hW (by omega) (by omega) (fun j hj e hm => ?_) hx⟩
  obtain ⟨f1, f2⟩ := hV.2.2.2.2.2.2.2.1 j hj
  have h0 := f1.2.2.1
  have h24 := f1.2.1
  refine ⟨_, rfl, _, _, hm.1.1, rfl, ⟨7, _, hm.1.2.2.2.1 (np j - 1) (by omega), rfl⟩, cf_looks (fo := fun p => fo (192 + 24 * j + p)) (back := true) hok f1.1 f2 h24 (fun q hq => ⟨_, hm.1.2.2.2.1 q hq⟩) ⟨fun _ => rfl, fun _ => rfl⟩ (np j) (np j - 1) (by omega) (by omega) _ _ _ (by omega) ⟨_, rfl, h1 j hj e⟩⟩
theorem cs_ahead (hok : zOk X) (hV : zPv fi fa lg M P np sz) (hR : zRR X x fi fa lg M P np sz B g) (hB : B + 3000 ≤ zz X) {v : Int32} {D : Nat} (hD : 120 ≤ D)
    (h1 : ∀ i : Nat, i < M → v = nI i → K (some (.int (zlV fa (192 + 24 * i) false (np i - 1)))) g) (hx : zIn v 0 (nI M - 1) = 0 → KX RJ9 (zSz g (zGz g + 7))) : zCal X D yX1_ahead wX1_ahead [.ref x, .int v] g K KX := by
  obtain ⟨d, rfl⟩ : ∃ d, D = d + 1 := ⟨D - 1, by omega⟩
  obtain ⟨ad, fo, eo, mo, c, pt, hW, hJ, hz⟩ := hR
  refine mX1_ahead (d := d) hok x v ⟨⟨1, _, hW.1.1, rfl⟩, cx_monitor hok hV hW (by omega) (by omega) (fun j hj e hm => ?_) hx⟩
  obtain ⟨f1, f2⟩ := hV.2.2.2.2.2.2.2.1 j hj
  have h0 := f1.2.2.1
  have h24 := f1.2.1
  refine ⟨_, rfl, _, _, hm.1.1, rfl, ⟨7, _, hm.1.2.2.2.1 (np j - 1) (by omega), rfl⟩, cf_looks (fo := fun p => fo (192 + 24 * j + p)) (back := false) hok f1.1 f2 h24 (fun q hq => ⟨_, hm.1.2.2.2.1 q hq⟩) ⟨fun z => absurd z (by decide), fun z => absurd z (by decide)⟩ (np j) (np j - 1) (by omega) (by omega) _ _ _ (by omega) ⟨_, rfl, h1 j hj e⟩⟩
end GTS
