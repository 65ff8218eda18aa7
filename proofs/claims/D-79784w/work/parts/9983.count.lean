set_option maxRecDepth 100000
section CNT
variable {X : zX} {d : Nat} {x : Nat} {ad fo eo : Nat → Nat} {mo : Nat → Nat → Nat} {c : Nat → Nat × Nat × Nat} {pt pt' : Nat → Nat} {fi fi' : Nat → Int32} {fa fa' : Nat → Nat → Int32} {lg : List Nat} {M P : Nat} {np sz : Nat → Nat} {B : Nat} {g g' : zG} {Q : Nat → Prop} {K : Option Value → zG → Prop} {KX : String → zG → Prop}
theorem zPv.er (hV : zPv fi fa lg M P np sz) : zEr fa lg.length := fun v hv => ⟨hV.2.2.2.2.1.2.2.2.1 v (hV.2.1 v hv), hV.2.2.2.2.1.2.2.2.2.2.1 v (hV.2.1 v hv)⟩
theorem zok3_t {kd a b : Int32} (h : zok3 kd a b = true) : ∃ k8 f l : Nat, k8 < 8 ∧ kd = nI k8 ∧ a = nI f ∧ b = nI l ∧ f ≤ l ∧ l ≤ 11000 := by
  unfold zok3 at h
  simp only [Bool.and_eq_true, Bool.not_eq_true', beq_eq_false_iff_ne] at h
  obtain ⟨⟨h1, h2⟩, h3⟩ := h
  obtain ⟨k8, hk8, rfl⟩ := zIn_N h1 (show (7 : Int32).toInt = (7 : Nat) by decide)
  obtain ⟨f, hf, rfl⟩ := zIn_N h2 (show (11000 : Int32).toInt = (11000 : Nat) by decide)
  obtain ⟨r1, r2⟩ := zIn_t h3
  rw [nI_toInt (by omega)] at r1
  rw [show (11000 : Int32).toInt = 11000 by decide] at r2
  obtain ⟨l, hl, rfl⟩ := nI_ti (x := b) (N := 11000) (by omega) (by omega) (by omega)
  rw [nI_toInt (by omega)] at r1
  exact ⟨k8, f, l, by omega, rfl, rfl, rfl, by omega, hl⟩
/-- what is asked of a kind in a stretch: the tree's answer -/
theorem cx_over (hok : zOk X) (hV : zPv fi fa lg M P np sz) (hW : zWd X x ad fo eo mo c pt fi fa lg M P np sz g) (hz : zGz g + 300 ≤ zz X) {k8 f l : Nat} (hk8 : k8 < 8) (hfl : f ≤ l) (hl : l ≤ 11000) {D : Nat} (hD : 30 ≤ D)
    (hK : ∀ (g' : zG) (r : Option Nat), zFe (fun _ => False) g g' → zSu g' r (zSl (zEk fa (nI k8) lg.length) f l) → zGz g' ≤ zGz g + 240 → K (some (va_rf r)) g') {tl : List Nat} (h8 : tl.length = 8) (h3 : ∀ kd : Nat, kd < 8 → zTr kd c g 14 (zr tl kd) 0 11000 (zEk fa (nI kd) lg.length)) : zCal X D yX2_over wX2_over [.ref (zr tl k8), .int (nI f), .int (nI l)] g K KX := by
  have h80 := hV.1.2.1
  have hlen : (zSl (zEk fa (nI k8) lg.length) f l).length ≤ 80 := by
    have := List.length_filter_le (fun x : Nat × Int32 => decide (f ≤ x.1 ∧ x.1 ≤ l)) (zEk fa (nI k8) lg.length)
    have := zEk_len (fa := fa) (kd := nI k8) lg.length
    unfold zSl
    omega
  exact ct_over hok hfl hl 14 _ 0 11000 _ g D K KX (h3 k8 hk8) (by omega) (fun x hx => ⟨Nat.zero_le _, (zEk_r hV.er x hx).1⟩) (by omega) (by omega) (fun g' r e1 e2 e3 => hK g' r e1 e2 (by omega))
theorem zRR.new (hM6 : M ≤ 6) (hW : zWd X x ad fo eo mo c pt fi fa lg M P np sz g) (hJ : zWj fo mo M P np sz) (e : zFe (fun _ => False) g g') (hz : zGz g' + zpT pt ≤ B) : zRR X x fi fa lg M P np sz B g' :=
  ⟨ad, fo, eo, mo, c, pt, ⟨hW.1.fe e (fun _ _ _ _ _ _ => id) (fun _ _ _ => id) id id, fun i hi => (hW.2 i hi).fe (by omega) e (fun _ _ _ _ => id) id id id id⟩, hJ, hz⟩
theorem cs_count (hok : zOk X) (hV : zPv fi fa lg M P np sz) (hR : zRR X x fi fa lg M P np sz B g) (hB : B + 3000 ≤ zz X) {kd a b : Int32} {D : Nat} (hD : 120 ≤ D)
    (h1 : zok3 kd a b = true → ∀ g' : zG, zFe zPc g g' → zRR X x fi fa lg M P np sz (B + 2000) g' → K (some (.int (zct fa kd a b lg.length))) g') (hx : zok3 kd a b = false → KX RJ12 (zSz g (zGz g + 7))) : zCal X D yX1_count wX1_count [.ref x, .int kd, .int a, .int b] g K KX := by
  obtain ⟨d, rfl⟩ : ∃ d, D = d + 8 := ⟨D - 8, by omega⟩
  obtain ⟨ad, fo, eo, mo, c, pt, hW, hJ, hz⟩ := hR
  have hM6 := hV.2.2.1.1
  obtain ⟨w1, -, -, -, ⟨tl, h8, l2, h3⟩, -⟩ := id hW.1
  have ch : zok3 kd a b = false → zCal X (d + 7) yX1_check wX1_check [.int 0] g (fun r g_3 => r = none ∧ False) KX := fun h => sp_check (d := d + 1) hok (fun z => absurd rfl z) (fun _ => ⟨by omega, hx h⟩)
  refine mX1_count (d := d + 7) hok x _ _ _ (cx_isIn hok ⟨_, rfl, zIn_bo _ _ _, fun z1 => ch (by unfold zok3; simp [z1]), fun n1 => cx_isIn hok ⟨_, rfl, zIn_bo _ _ _, fun z2 => ch (by unfold zok3; simp [z2]), fun n2 => cx_isIn hok ⟨_, rfl, zIn_bo _ _ _, fun z3 => ch (by unfold zok3; simp [z3]), fun n3 => ?_⟩⟩⟩)
  have hok3 : zok3 kd a b = true := by
    unfold zok3
    simp [n1, n2, n3]
  obtain ⟨k8, f, l, hk8, rfl, rfl, rfl, hfl, hl⟩ := zok3_t hok3
  have hT := h3 k8 hk8
  obtain ⟨lw0, up0, ⟨⟨al0, tr1, -⟩, -⟩, -⟩ := hT.top
  refine sp_check (d := d + 1) hok (fun _ => ⟨rfl, _, _, w1, rfl, l2.is (by omega), ls_get (d := d + 5) hok l2 (by omega) (show k8 < tl.length by omega) ?_⟩) (fun z => absurd z (by decide))
  rw [← zr_el (by omega)]
  have fin : ∀ g1 : zG, zFe (fun _ => False) g g1 → zGz g1 ≤ zGz g + 240 → ∀ w, w = nI (zSl (zEk fa (nI k8) lg.length) f l).length → K (some (.int w)) g1 := fun g1 e1 e2 w hw => by
    have := h1 hok3 g1 (e1.mono (fun _ h => h.elim)) (zRR.new hM6 hW hJ e1 (by omega))
    rw [zct_E (by omega) hl hV.er, ← hw] at this
    exact this
  refine ⟨_, rfl, _, rfl, ⟨2, _, tr1, rfl⟩, ⟨2, _, tr1, rfl⟩, cx_over hok hV hW (by omega) hk8 hfl hl (by omega) (fun g1 r e1 e2 e3 => ⟨r, rfl, fun c0 => ?_, fun s c0 => ?_⟩) h8 h3⟩
  · subst c0
    have e2' : zSl (zEk fa (nI k8) lg.length) f l = [] := e2
    exact fin g1 e1 e3 0 (by rw [e2']; rfl)
  · subst c0
    obtain ⟨m, q1, q2⟩ := e2
    exact ⟨⟨5, _, q1, rfl⟩, _, _, q1, rfl, fin g1 e1 e3 _ rfl⟩
theorem cs_greatest (hok : zOk X) (hV : zPv fi fa lg M P np sz) (hR : zRR X x fi fa lg M P np sz B g) (hB : B + 3000 ≤ zz X) {kd a b : Int32} {D : Nat} (hD : 120 ≤ D)
    (h1 : zok3 kd a b = true → ∀ g' : zG, zFe zPc g g' → zRR X x fi fa lg M P np sz (B + 2000) g' → K (some (.int (zgt fa kd a b lg.length))) g') (hx : zok3 kd a b = false → KX RJ12 (zSz g (zGz g + 7))) : zCal X D yX1_greatest wX1_greatest [.ref x, .int kd, .int a, .int b] g K KX := by
  obtain ⟨d, rfl⟩ : ∃ d, D = d + 8 := ⟨D - 8, by omega⟩
  obtain ⟨ad, fo, eo, mo, c, pt, hW, hJ, hz⟩ := hR
  have hM6 := hV.2.2.1.1
  obtain ⟨w1, -, -, -, ⟨tl, h8, l2, h3⟩, -⟩ := id hW.1
  have ch : zok3 kd a b = false → zCal X (d + 7) yX1_check wX1_check [.int 0] g (fun r g_3 => r = none ∧ False) KX := fun h => sp_check (d := d + 1) hok (fun z => absurd rfl z) (fun _ => ⟨by omega, hx h⟩)
  refine mX1_greatest (d := d + 7) hok x _ _ _ (cx_isIn hok ⟨_, rfl, zIn_bo _ _ _, fun z1 => ch (by unfold zok3; simp [z1]), fun n1 => cx_isIn hok ⟨_, rfl, zIn_bo _ _ _, fun z2 => ch (by unfold zok3; simp [z2]), fun n2 => cx_isIn hok ⟨_, rfl, zIn_bo _ _ _, fun z3 => ch (by unfold zok3; simp [z3]), fun n3 => ?_⟩⟩⟩)
  have hok3 : zok3 kd a b = true := by
    unfold zok3
    simp [n1, n2, n3]
  obtain ⟨k8, f, l, hk8, rfl, rfl, rfl, hfl, hl⟩ := zok3_t hok3
  have hT := h3 k8 hk8
  obtain ⟨lw0, up0, ⟨⟨al0, tr1, -⟩, -⟩, -⟩ := hT.top
  obtain ⟨g1e, g2e⟩ := zgt_E (kd := nI k8) (a := f) (b := l) (by omega) hl hV.er
  refine sp_check (d := d + 1) hok (fun _ => ⟨rfl, _, _, w1, rfl, l2.is (by omega), ls_get (d := d + 5) hok l2 (by omega) (show k8 < tl.length by omega) ?_⟩) (fun z => absurd z (by decide))
  rw [← zr_el (by omega)]
  have fin : ∀ g1 : zG, zFe (fun _ => False) g g1 → zGz g1 ≤ zGz g + 240 → ∀ w, w = zgt fa (nI k8) (nI f) (nI l) lg.length → K (some (.int w)) g1 := fun g1 e1 e2 w hw => by
    have := h1 hok3 g1 (e1.mono (fun _ h => h.elim)) (zRR.new hM6 hW hJ e1 (by omega))
    rw [← hw] at this
    exact this
  refine ⟨_, rfl, _, rfl, ⟨2, _, tr1, rfl⟩, ⟨2, _, tr1, rfl⟩, cx_over hok hV hW (by omega) hk8 hfl hl (by omega) (fun g1 r e1 e2 e3 => ⟨r, rfl, fun c0 => ?_, fun s c0 => ?_⟩) h8 h3⟩
  · subst c0
    exact fin g1 e1 e3 (-1001) (g1e e2).symm
  · subst c0
    obtain ⟨m, q1, ⟨y, q2, q3⟩, q4⟩ := e2
    obtain ⟨⟨u, u1, u2⟩, u3⟩ := g2e (fun z => by rw [z] at q2; cases q2)
    refine ⟨⟨5, _, q1, rfl⟩, _, _, q1, rfl, fin g1 e1 e3 _ (Int32.le_antisymm ?_ ?_)⟩
    · rw [← q3]
      exact u3 y q2
    · rw [← u2]
      exact q4 u u1
theorem cs_greatestByAll_l (hok : zOk X) (hn : lg.length ≤ 80) {mc : Int32} {cap : Nat} {kd a b : Int32} {q al : Nat} {E : zM} (C : zC X (d + 3) E RX1 cX1_greatestByAll 7 (some .int) "greatestByAll") (hQ : zQ X E K KX) {g0 : zG}
    (hK : ∀ g2 : zG, zFe (fun k => k = 11) g0 g2 → zGz g2 = zGz g0 → K (some (.int (zgt fa kd a b lg.length))) g2) : ∀ (cc k : Nat) (g : zG), lg.length = k + cc → zFe (fun k => k = 11) g0 g → zGz g = zGz g0 → zL X g 64 al mc ((List.range lg.length).map eo) cap → (∀ v, v < lg.length → zGo g 4 (eo v) = some (zef fa v)) → zIt g q al k mc →
    GW X E 7 g 56 [(1, .int kd), (2, .int a), (3, .int b), (4, .int (zgt fa kd a b k)), (5, .ref q)] []
  | 0, k, g, hk, hF, hz, hL, hev, hI => by
    have : k = lg.length := by omega
    subst this
    refine bX1_greatestByAll_56 (d := d + 2) C hQ g _ _ _ _ _ ⟨hI.is, sp_hasNext hok hL (by omega) hI (by rw [List.length_map, List.length_range]; omega) (fun _ => ⟨0, rfl, Or.inl rfl, fun _ => hK g hF hz, fun z => absurd rfl z⟩) (fun z => absurd z (by rw [List.length_map, List.length_range]; omega))⟩
  | cc + 1, k, g, hk, hF, hz, hL, hev, hI => by
    have hkn : k < lg.length := by omega
    have hlen : ((List.range lg.length).map eo).length = lg.length := by rw [List.length_map, List.length_range]
    have hzr : zr ((List.range lg.length).map eo) k = eo k := by
      rw [zr_el (by omega), List.getElem_map, List.getElem_range]
    refine bX1_greatestByAll_56 (d := d + 2) C hQ g _ _ _ _ _ ⟨hI.is, sp_hasNext hok hL (by omega) hI (by omega) (fun z => absurd z (by omega)) (fun _ => ⟨1, rfl, Or.inr rfl, fun z => absurd z (by decide), fun _ => ⟨hI.is, it_next' hok hL (by omega) hI (by omega) (by omega) (fun g1 a1 a2 a3 a4 => ?_)⟩⟩)⟩
    rw [hzr]
    have ev1 := a2.1 4 (by omega) _ _ (hev k hkn)
    have on : ∀ w, w = zgt fa kd a b (k + 1) → GW X E 7 g1 56 [(1, .int kd), (2, .int a), (3, .int b), (4, .int w), (5, .ref q)] [] := fun w hw => by
      rw [hw]
      exact cs_greatestByAll_l hok hn C hQ hK cc (k + 1) g1 (by omega) (hF.trans a2) (a4.trans hz) (hL.fe a2 (by omega)) (fun v hv => a2.1 4 (by omega) _ _ (hev v hv)) a1
    have e : zgt fa kd a b (k + 1) = if fa 8 k = kd ∧ ¬ zIn (fa 7 k) a b = 0 ∧ ¬ fa 10 k ≤ zgt fa kd a b k then fa 10 k else zgt fa kd a b k := rfl
    refine ⟨_, rfl, _, rfl, ⟨4, _, ev1, rfl⟩, _, _, ev1, rfl, fun c1 => on _ ?_, fun c1 => ⟨_, _, ev1, rfl, cx_isIn hok ⟨_, rfl, zIn_bo _ _ _, fun c2 => on _ ?_, fun c2 => ⟨_, _, ev1, rfl, sp_max hok ⟨_, rfl, on _ ?_⟩⟩⟩⟩⟩
    · rw [e, if_neg (fun z => c1 z.1)]
    · rw [e, if_neg (fun z => z.2.1 c2)]
    · rw [e]
      by_cases c3 : fa 10 k ≤ zgt fa kd a b k
      · rw [if_neg (Int32.not_lt.mpr c3), if_neg (fun z => z.2.2 c3)]
      · rw [if_pos (Int32.not_le.mp c3), if_pos ⟨c1, c2, c3⟩]
end CNT
