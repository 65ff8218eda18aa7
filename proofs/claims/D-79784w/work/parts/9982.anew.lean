set_option maxRecDepth 100000
section ANW
variable {X : zX} {d : Nat} {x : Nat} {ad fo eo : Nat → Nat} {mo : Nat → Nat → Nat} {c : Nat → Nat × Nat × Nat} {pt pt' : Nat → Nat} {fi fi' : Nat → Int32} {fa fa' : Nat → Nat → Int32} {lg : List Nat} {M P : Nat} {np sz : Nat → Nat} {B : Nat} {g g' : zG} {Q : Nat → Prop} {K : Option Value → zG → Prop} {KX : String → zG → Prop}
/-- a monitor's row was used -/
theorem zWd.rw' (hW : zWd X x ad fo eo mo c pt fi fa lg M P np sz g) (hM6 : M ≤ 6) {i q' : Nat} {l' : List Nat} {f' : Nat → Int32} (hi : i < M) (e : zFe (zPf i) g g') (hM : zMs X i x ad (mo i) (fun p => fo (192 + 24 * i + p)) (np i) (fa 24 i) fi fa g') (hL : zLs X g' (82 + 3 * i) (mo i 3) l' q') (hf : zGi g' 51 (ad 10) = some (80, f')) : zWd X x ad fo eo mo c (zpu pt (82 + 3 * i) q') fi fa lg M P np sz g' := by
  have nk : ∀ j, j < 80 → ¬ zPf i j := fun j hj => by unfold zPf zPr; omega
  obtain ⟨⟨b1, b2, b3, b4, ⟨l, l1, l2, l3⟩, b6, b7, b8, ⟨l9, b9⟩, b10⟩, wm⟩ := hW
  refine ⟨zWb.gp (pt := pt) ⟨e.1 1 (nk 1 (by omega)) _ _ b1, e.2.1 50 (by unfold zPf zPr; omega) _ _ b2, b3.fe e (nk 64 (by omega)) (nk 4 (by omega)), b4.fe e (nk 65 (by omega)) (nk 4 (by omega)), ⟨l, l1, l2.fe e (nk 66 (by omega)), fun kd hkd => zTr.fr e (nk 5 (by omega)) 14 _ _ _ _ (l3 kd hkd) (fun b l r fs k1 _ _ _ _ => ⟨e.1 2 (nk 2 (by omega)) _ _ k1, rfl⟩)⟩, b6.fe e (nk 67 (by omega)), b7.fe e (nk 68 (by omega)), ⟨f', hf⟩, ⟨l9, b9.fe e (nk 69 (by omega))⟩, b10.fe e (nk 7 (by omega))⟩ (fun j h1 h2 => zpu_n _ _ (by omega)), fun j hj => ?_⟩
  by_cases cj : j = i
  · subst cj
    refine ⟨hM, ⟨l', by rw [zpu_s]; exact hL⟩, ?_⟩
    rw [zpu_n _ _ (by omega)]
    exact (wm j hj).2.2.fe e (by unfold zPf zPr; omega) (nk 6 (by omega))
  · have h1 : zWg X x ad (mo j) fo pt fi fa (np j) j (fa 24 j) lg.length (fun v => fa 25 (80 * j + v)) (fun v => fa 26 (80 * j + v)) g := wm j hj
    have h2 := h1.fe (by omega) e (nk 1 (by omega)) (nk 6 (by omega)) (nk 7 (by omega)) (nk 8 (by omega)) (nk 9 (by omega)) (by unfold zPf zPr; omega) (by unfold zPf zPr; omega) (by unfold zPf zPr; omega) (by unfold zPf zPr; omega)
    exact h2.gp (zpu_n _ _ (by omega)) (zpu_n _ _ (by omega))
theorem zPf_c {i : Nat} (hi : i < 6) : ∀ k, zPf i k → zPc k := fun k hk => by
  unfold zPf zPr at hk
  unfold zPc
  omega
theorem cs_answerAnew (hok : zOk X) (hV : zPv fi fa lg M P np sz) (hR : zRR X x fi fa lg M P np sz B g) (hB : B + 3000 ≤ zz X) {v w : Int32} {D : Nat} (hD : 120 ≤ D)
    (h1 : ∀ i e : Nat, i < M → e < lg.length → v = nI i → w = nI e → ∀ g' : zG, zFe zPc g g' → zRR X x fi fa lg M P np sz B g' → K (some (.int (fa 25 (80 * i + e)))) g') (hx : zIn v 0 (nI M - 1) = 0 ∨ zIn w 0 (nI lg.length - 1) = 0 → KX RJ9 (zSz g (zGz g + 7))) : zCal X D yX1_answerAnew wX1_answerAnew [.ref x, .int v, .int w] g K KX := by
  obtain ⟨d, rfl⟩ : ∃ d, D = d + 1 := ⟨D - 1, by omega⟩
  obtain ⟨ad, fo, eo, mo, c, pt, hW, hJ, hz⟩ := hR
  have hM6 := hV.2.2.1.1
  refine mX1_answerAnew (d := d) hok x v w ⟨⟨1, _, hW.1.1, rfl⟩, cx_monitor hok hV hW (by omega) (by omega) (fun i hi e hm => ⟨_, rfl, ⟨1, _, hW.1.1, rfl⟩, cx_its hok hV hW (by omega) (by omega) (fun j hj e2 hev => ?_) (fun z => hx (Or.inr z))⟩) (fun z => hx (Or.inl z))⟩
  subst e e2
  obtain ⟨m1, ⟨l0, m2⟩, m3⟩ := hm
  have hp := zpT_le pt (j := 82 + 3 * i) (by omega) (by omega)
  have hW0 := hW
  obtain ⟨⟨w1, -, w3, w4, -, -, -, ⟨f, w8⟩, -⟩, -⟩ := hW0
  refine ⟨_, rfl, _, _, w1, rfl, ⟨8, _, m1.1, rfl⟩, mt_answerFor hok (by omega) (hV.2.2.2.2.2.2.2.1 i hi).1 (hJ.1 i hi) (tl := 65) (by omega) (by omega) (by omega) hV.2.2.2.2.1 hV.2.2.2.2.2.1 hV.1.2.1 hj (hV.2.1 j hj) (q0 := pt (82 + 3 * i)) (by omega) (by omega) w3 m1 m2 w4 (fun g1 q1 l1 a1 a2 a3 a4 => ⟨_, rfl, ?_⟩)⟩
  have a1' : zFe (zPf i) g g1 := a1.mono (fun k hk => Or.inl hk)
  have hup := zpT_u pt q1 (k := 82 + 3 * i) (by omega) (by omega)
  have := h1 i j hi hj rfl rfl g1 (a1'.mono (zPf_c (by omega))) ⟨ad, fo, eo, mo, c, _, hW.rw' hM6 hi a1' a4 a3 (a1.2.1 51 (by unfold zPr; omega) _ _ w8), hJ, by omega⟩
  rw [hV.2.2.2.2.2.2.2.2.2.2.2.2 i j hi hj] at this
  exact this
/-- zWd with another class object -/
theorem zWd.nx (hW : zWd X x ad fo eo mo c pt fi fa lg M P np sz g) (hM6 : M ≤ 6) (e : zFe Q g g') (hx : zGo g' 1 x = some (zxs ad fi')) (h1 : ∀ k, k < 16 → k ≠ 1 → k ≠ 3 → k ≠ 11 → ¬ Q k) (h2 : ∀ k, 64 ≤ k → k < 98 → ¬ Q k) (h3 : ∀ k, 1050 ≤ k → k < 1060 → ¬ Q k) : zWd X x ad fo eo mo c pt fi' fa lg M P np sz g' := by
  obtain ⟨⟨b1, b2, b3, b4, ⟨l, l1, l2, l3⟩, b6, b7, ⟨f, b8⟩, ⟨l9, b9⟩, b10⟩, wm⟩ := hW
  have nk : ∀ k, k < 16 → k ≠ 1 → k ≠ 3 → k ≠ 11 → ¬ Q k := h1
  refine ⟨⟨hx, e.2.1 50 (h3 _ (by omega) (by omega)) _ _ b2, b3.fe e (h2 _ (by omega) (by omega)) (nk 4 (by omega) (by omega) (by omega) (by omega)), b4.fe e (h2 _ (by omega) (by omega)) (nk 4 (by omega) (by omega) (by omega) (by omega)), ⟨l, l1, l2.fe e (h2 _ (by omega) (by omega)), fun kd hkd => zTr.fr e (nk 5 (by omega) (by omega) (by omega) (by omega)) 14 _ _ _ _ (l3 kd hkd) (fun b l r fs k1 _ _ _ _ => ⟨e.1 2 (nk 2 (by omega) (by omega) (by omega) (by omega)) _ _ k1, rfl⟩)⟩, b6.fe e (h2 _ (by omega) (by omega)), b7.fe e (h2 _ (by omega) (by omega)), ⟨f, e.2.1 51 (h3 _ (by omega) (by omega)) _ _ b8⟩, ⟨l9, b9.fe e (h2 _ (by omega) (by omega))⟩, b10.fe e (nk 7 (by omega) (by omega) (by omega) (by omega))⟩, fun i hi => ?_⟩
  have h1 : zWg X x ad (mo i) fo pt fi fa (np i) i (fa 24 i) lg.length (fun v => fa 25 (80 * i + v)) (fun v => fa 26 (80 * i + v)) g := wm i hi
  exact h1.nx (by omega) e hx (nk 6 (by omega) (by omega) (by omega) (by omega)) (nk 7 (by omega) (by omega) (by omega) (by omega)) (nk 8 (by omega) (by omega) (by omega) (by omega)) (nk 9 (by omega) (by omega) (by omega) (by omega)) (h2 _ (by omega) (by omega)) (h2 _ (by omega) (by omega)) (h2 _ (by omega) (by omega)) (h3 _ (by omega) (by omega))
/-- setPatience -/
theorem cs_setPatience (hok : zOk X) (hV : zPv fi fa lg M P np sz) (hR : zRR X x fi fa lg M P np sz B g) (hB : B + 3000 ≤ zz X) {v : Int32} {D : Nat} (hD : 120 ≤ D)
    (h1 : zIn v 0 1000 ≠ 0 → ∀ g' : zG, zFe zPc g g' → zRR X x (va_up (va_up fi 34 0) 1 v) fa lg M P np sz B g' → zPv (va_up (va_up fi 34 0) 1 v) fa lg M P np sz → K (some (.int (fi 1))) g') (hx : zIn v 0 1000 = 0 → KX RJ12 (zSz g (zGz g + 7))) : zCal X D yX1_setPatience wX1_setPatience [.ref x, .int v] g K KX := by
  obtain ⟨d, rfl⟩ : ∃ d, D = d + 8 := ⟨D - 8, by omega⟩
  obtain ⟨ad, fo, eo, mo, c, pt, hW, hJ, hz⟩ := hR
  have hM6 := hV.2.2.1.1
  have w1 := hW.1.1
  refine mX1_setPatience (d := d + 7) hok x v (cx_isIn hok ⟨_, rfl, zIn_bo _ _ _, sp_check (d := d + 1) hok (fun n1 => ⟨rfl, _, _, w1, rfl, _, w1, by simp [zxs], fun g1 e1 => ?_⟩) (fun z => ⟨by omega, hx z⟩)⟩)
  have f1 : zFe (fun k => k = 1) g g1 := by
    rw [e1]
    exact zFe.so rfl
  have x1 : zGo g1 1 x = some (zxs ad (va_up (va_up fi 34 0) 1 v)) := by
    rw [e1, zSo_o, zup_s]
    rfl
  have z1 : zGz g1 = zGz g := by rw [e1]; rfl
  obtain ⟨r1, r2⟩ := zIn_t n1
  rw [show (0 : Int32).toInt = 0 from rfl] at r1
  rw [show (1000 : Int32).toInt = 1000 by decide] at r2
  refine h1 n1 g1 (f1.mono (fun k hk => by unfold zPc; omega)) ⟨ad, fo, eo, mo, c, pt, hW.nx hM6 f1 x1 (fun k _ h _ _ => h) (fun k _ _ => by omega) (fun k _ _ => by omega), hJ, by omega⟩ ?_
  have hA := hV.qs (zQs.f34 fi fa 0)
  obtain ⟨b1, b2, b3, b4, b5, b6, b7, b8, b9, b10, b11, b12, b13⟩ := hA
  exact ⟨b1, b2, b3, b4, b5, b6, b7, b8, b9, b10, b11, ⟨by rw [va_up_self]; exact r1, by rw [va_up_self]; exact r2⟩, fun i w hi hw => by rw [b13 i w hi hw]; exact (congrFun (zAn_sa (fi := va_up fi 34 0) (fi' := va_up (va_up fi 34 0) 1 v) (fa := fa) (fa' := fa) ⟨rfl, rfl, rfl, rfl, rfl, rfl, rfl, rfl, rfl, rfl, rfl⟩) w).symm⟩
/-- setOffset -/
theorem cs_setOffset (hok : zOk X) (hV : zPv fi fa lg M P np sz) (hR : zRR X x fi fa lg M P np sz B g) (hB : B + 3000 ≤ zz X) {a b : Int32} {D : Nat} (hD : 120 ≤ D)
    (h1 : zth (zIn a 0 3) (zIn b (-1000) 1000) 1 = 0 → ∀ g' : zG, zFe zPc g g' → zRR X x (va_up fi 34 0) (va_up fa 0 (upd (fa 0) a.toNatClampNeg b)) lg M P np sz B g' → zPv (va_up fi 34 0) (va_up fa 0 (upd (fa 0) a.toNatClampNeg b)) lg M P np sz → K (some (.int (fa 0 a.toNatClampNeg))) g') (hx : ∀ (cd : Int32) (s : String), zth (zIn a 0 3) (zIn b (-1000) 1000) 1 = cd → (cd = 1 ∧ s = RJ9) ∨ (cd = 2 ∧ s = RJ12) → KX s (zSz g (zGz g + 7))) : zCal X D yX1_setOffset wX1_setOffset [.ref x, .int a, .int b] g K KX := by
  obtain ⟨d, rfl⟩ : ∃ d, D = d + 8 := ⟨D - 8, by omega⟩
  obtain ⟨ad, fo, eo, mo, c, pt, hW, hJ, hz⟩ := hR
  have hM6 := hV.2.2.1.1
  have w1 := hW.1.1
  have w2 := hW.1.2.1
  refine mX1_setOffset (d := d + 7) hok x a b (cx_isNode (d := d + 6) hok ⟨_, rfl, zIn_bo _ _ _, sp_place (d := d + 1) hok (fun n1 => ⟨rfl, cx_isIn hok ⟨_, rfl, zIn_bo _ _ _, sp_check (d := d + 1) hok (fun n2 => ⟨rfl, ?_⟩) (fun z => ⟨by omega, hx 2 RJ12 ?_ (Or.inr ⟨rfl, rfl⟩)⟩)⟩⟩) (fun z => ⟨by omega, hx 1 RJ9 (if_pos z) (Or.inl ⟨rfl, rfl⟩)⟩)⟩)
  · obtain ⟨a4, ha4, rfl⟩ := zIn_N n1 (show (3 : Int32).toInt = (3 : Nat) by decide)
    have e0 : zth (zIn (nI a4) 0 3) (zIn b (-1000) 1000) 1 = 0 := by
      unfold zth
      rw [if_neg n1, if_neg n2, if_neg (by decide)]
    refine ⟨_, _, w1, rfl, 4, _, w2, vp_in_nI (by omega) (by omega), fun v11 e11 => ⟨_, _, w1, rfl, 4, _, w2, vp_in_nI (by omega) (by omega), fun g1 e1 => ?_⟩⟩
    subst e11
    obtain ⟨r1, r2⟩ := zIn_t n2
    rw [show (-1000 : Int32).toInt = -1000 by decide] at r1
    rw [show (1000 : Int32).toInt = 1000 by decide] at r2
    have f1 : zFe (fun k => k = 1050) g g1 := by
      rw [e1]
      exact zFe.si rfl
    have z1 : zGz g1 = zGz g := by rw [e1]; rfl
    have hA := hV.qs (zQs.f34 fi fa 0)
    have hlv := hV.1.2.2.2.1
    refine h1 e0 g1 (f1.mono (fun k hk => by unfold zPc; omega)) ⟨ad, fo, eo, mo, c, pt, ?_, hJ, by omega⟩ ?_
    · have hW1 : zWd X x ad fo eo mo c pt (va_up fi 34 0) fa lg M P np sz g := hW.cg hlv ((zQs.f34 fi fa 0).ag _ _ _ _ _)
      obtain ⟨⟨b1, b2, b3, b4, ⟨l, l1, l2, l3⟩, b6, b7, ⟨f, b8⟩, ⟨l9, b9⟩, b10⟩, wm⟩ := hW1
      refine ⟨⟨f1.1 1 (by omega) _ _ b1, by rw [va_up_self, e1, zSi_i, zup_s], b3.fe f1 (by omega) (by omega), b4.fe f1 (by omega) (by omega), ⟨l, l1, l2.fe f1 (by omega), fun kd hkd => ?_⟩, b6.fe f1 (by omega), b7.fe f1 (by omega), ⟨f, f1.2.1 51 (by omega) _ _ b8⟩, ⟨l9, b9.fe f1 (by omega)⟩, b10.fe f1 (by omega)⟩, fun i hi => ?_⟩
      · rw [zEk_c (fa := fa) (fun j _ _ v _ => by rw [va_up_ne _ _ (by omega)])]
        exact zTr.fr f1 (by omega) 14 _ _ _ _ (l3 kd hkd) (fun b l r fs k1 _ _ _ _ => ⟨f1.1 2 (by omega) _ _ k1, rfl⟩)
      · exact (wm i hi).fe (by omega) f1 (fun k _ _ _ => by omega) (by omega) (by omega) (by omega) (by omega)
    · obtain ⟨b1, b2, b3, b4, b5, b6, b7, b8, b9, b10, b11, b12, b13⟩ := hA
      refine ⟨b1, b2, b3, b4, b5, b6, b7, b8, b9, b10, fun k hk => ?_, b12, fun i w hi hw => ?_⟩
      · rw [va_up_self, nI_clamp (by omega)]
        by_cases ck : k = a4
        · subst ck
          rw [pk_us]
          exact ⟨r1, r2⟩
        · rw [pk_un ck]
          exact b11 k hk
      · show fa 25 (80 * i + w) = _
        rw [b13 i w hi hw]
        exact (congrFun (zAn_sa (fi := va_up fi 34 0) (fi' := va_up fi 34 0) (fa := fa) (fa' := va_up fa 0 (upd (fa 0) (nI a4).toNatClampNeg b)) ⟨rfl, rfl, rfl, rfl, rfl, rfl, rfl, rfl, rfl, rfl, rfl⟩) w).symm
  · unfold zth
    rw [if_neg n1, if_pos z]
end ANW
