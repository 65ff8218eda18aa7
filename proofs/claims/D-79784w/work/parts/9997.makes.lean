set_option maxRecDepth 100000
/-- what a method that makes a formula of others does, in one -/
def zck (X : zX) (x : Nat) (fi : Nat → Int32) (fa : Nat → Nat → Int32) (lg : List Nat) (M P : Nat) (np sz : Nat → Nat) (B : Nat) (g : zG) (K : Option Value → zG → Prop) (KX : String → zG → Prop) (ok : Bool) (s w : Nat) (n b : Int32) : Prop :=
  ((ok = true ∧ zcM sz P s = true) → ∀ g2 : zG, zFe zPc g g2 → zRR X x (zp1 (va_up fi 34 0) (zsum sz P) (P + 1 - s)) (zp2 fa (zsum sz P) (nI w) n b (nI (zsS sz P s)) (P - s)) lg M (P + 1 - s) np (zsu sz (P - s) (zsS sz P s)) (B + 2000) g2 → zPv (zp1 (va_up fi 34 0) (zsum sz P) (P + 1 - s)) (zp2 fa (zsum sz P) (nI w) n b (nI (zsS sz P s)) (P - s)) lg M (P + 1 - s) np (zsu sz (P - s) (zsS sz P s)) → K (some (.int (nI (P + 1 - s)))) g2) ∧
  (ok = false → ∀ g2 : zG, zFe zPc g g2 → zRR X x fi fa lg M P np sz (B + 2000) g2 → KX RJ12 g2) ∧
  (ok = true → ¬ zcM sz P s = true → ∀ g2 : zG, zFe zPc g g2 → zRR X x fi fa lg M P np sz (B + 2000) g2 → KX RJ13 g2)
theorem zIn_bd {b : Int32} (h : ¬ zIn b (-1) 1000 = 0) : b = -1 ∨ ∃ k : Nat, k ≤ 1000 ∧ b = nI k := by
  obtain ⟨h1, h2⟩ := zIn_t h
  rw [show (-1 : Int32).toInt = -1 by decide] at h1
  rw [show (1000 : Int32).toInt = 1000 by decide] at h2
  by_cases c : b.toInt = -1
  · exact Or.inl (Int32.toInt_inj.mp (by rw [c]; decide))
  · exact Or.inr (nI_ti (N := 1000) (by omega) (by omega) (by omega))
section MK
variable {X : zX} {d : Nat} {x : Nat} {fi : Nat → Int32} {fa : Nat → Nat → Int32} {lg : List Nat} {M P : Nat} {np sz : Nat → Nat} {B : Nat} {g g' : zG} {K : Option Value → zG → Prop} {KX : String → zG → Prop}
theorem cx_jn (hok : zOk X) (hV : zPv fi fa lg M P np sz) (hR : zRR X x fi fa lg M P np sz B g) (hB : B + 3000 ≤ zz X) {w s : Nat} {n b : Int32} (hw : w < 12) (hay : zay w = s) (hs1 : 1 ≤ s) (hs2 : s ≤ 2) (h2 : b = -1 ∨ ∃ k : Nat, k ≤ 1000 ∧ b = nI k) {D : Nat} (hD : 20 ≤ D) {ok : Bool} (hb : ok = true) (h : zck X x fi fa lg M P np sz B g K KX ok s w n b) : zIs g 1 x ∧ zCal X D yX1_join wX1_join [.ref x, .ref (zE X w), .int (nI s), .int n, .int b] g (fun r g_1 => ∃ v_2 : Int32, r = some (.int v_2) ∧ K (some (.int v_2)) g_1) KX := by
  refine ⟨?_, cx_join hok hV hR hB hw hay hs1 hs2 h2 hD (fun q g2 e1 e2 e3 => ⟨_, rfl, h.1 ⟨hb, q⟩ g2 e1 e2 e3⟩) (fun q g2 e1 e2 => h.2.2 hb q g2 e1 e2)⟩
  obtain ⟨ad, fo, eo, mo, c, pt, hW, -, -⟩ := hR
  exact ⟨1, _, hW.1.1, rfl⟩
/-- with a bound -/
theorem cx_jb (hok : zOk X) (hV : zPv fi fa lg M P np sz) (hR : zRR X x fi fa lg M P np sz B g) (hB : B + 3000 ≤ zz X) {w s : Nat} {b : Int32} (hw : w < 12) (hay : zay w = s) (hs1 : 1 ≤ s) (hs2 : s ≤ 2) {D : Nat} (hD : 20 ≤ D) (h : zck X x fi fa lg M P np sz B g K KX (!(zIn b (-1) 1000 == 0)) s w 0 b) : zCal X D yX1_isBound wX1_isBound [.int b] g (fun r g_1 => ∃ v_2 : Int32, r = some (.int v_2) ∧ zbo v_2 ∧ zCal X D yX1_check wX1_check [.int v_2] g_1 (fun r g_3 => r = none ∧ zIs g_3 1 x ∧ zCal X D yX1_join wX1_join [.ref x, .ref (zE X w), .int (nI s), .int 0, .int b] g_3 (fun r g_4 => ∃ v_5 : Int32, r = some (.int v_5) ∧ K (some (.int v_5)) g_4) KX) KX) KX := by
  obtain ⟨d, rfl⟩ : ∃ d, D = d + 6 := ⟨D - 6, by omega⟩
  have hM6 := hV.2.2.1.1
  have hz : zGz g ≤ B := by
    obtain ⟨ad, fo, eo, mo, c, pt, -, -, h3⟩ := id hR
    omega
  refine cx_isBound (d := d + 5) hok ⟨_, rfl, zIn_bo _ _ _, sp_check (d := d) hok (fun c => ⟨rfl, cx_jn hok hV hR hB hw hay hs1 hs2 (zIn_bd c) hD (by simpa using c) h⟩) (fun c => ⟨by omega, h.2.1 (by simpa using c) _ (zFe.sz _) ((hR.up hM6 7).mono (by omega))⟩)⟩
theorem cs_not (hok : zOk X) (hV : zPv fi fa lg M P np sz) (hR : zRR X x fi fa lg M P np sz B g) (hB : B + 3000 ≤ zz X) {D : Nat} (hD : 120 ≤ D) (h : zck X x fi fa lg M P np sz B g K KX true 1 2 0 0) : zCal X D yX1_not wX1_not [.ref x] g K KX := by
  obtain ⟨d, rfl⟩ : ∃ d, D = d + 1 := ⟨D - 1, by omega⟩
  exact mX1_not (d := d) hok x (cx_jn (w := 2) (s := 1) hok hV hR hB (by omega) (by decide) (by omega) (by omega) (Or.inr ⟨0, by omega, nI_0.symm⟩) (by omega) rfl h)
theorem cs_both (hok : zOk X) (hV : zPv fi fa lg M P np sz) (hR : zRR X x fi fa lg M P np sz B g) (hB : B + 3000 ≤ zz X) {D : Nat} (hD : 120 ≤ D) (h : zck X x fi fa lg M P np sz B g K KX true 2 3 0 0) : zCal X D yX1_both wX1_both [.ref x] g K KX := by
  obtain ⟨d, rfl⟩ : ∃ d, D = d + 1 := ⟨D - 1, by omega⟩
  exact mX1_both (d := d) hok x (cx_jn (w := 3) (s := 2) hok hV hR hB (by omega) (by decide) (by omega) (by omega) (Or.inr ⟨0, by omega, nI_0.symm⟩) (by omega) rfl h)
theorem cs_either (hok : zOk X) (hV : zPv fi fa lg M P np sz) (hR : zRR X x fi fa lg M P np sz B g) (hB : B + 3000 ≤ zz X) {D : Nat} (hD : 120 ≤ D) (h : zck X x fi fa lg M P np sz B g K KX true 2 4 0 0) : zCal X D yX1_either wX1_either [.ref x] g K KX := by
  obtain ⟨d, rfl⟩ : ∃ d, D = d + 1 := ⟨D - 1, by omega⟩
  exact mX1_either (d := d) hok x (cx_jn (w := 4) (s := 2) hok hV hR hB (by omega) (by decide) (by omega) (by omega) (Or.inr ⟨0, by omega, nI_0.symm⟩) (by omega) rfl h)
theorem cs_before (hok : zOk X) (hV : zPv fi fa lg M P np sz) (hR : zRR X x fi fa lg M P np sz B g) (hB : B + 3000 ≤ zz X) {D : Nat} (hD : 120 ≤ D) (h : zck X x fi fa lg M P np sz B g K KX true 1 5 0 0) : zCal X D yX1_before wX1_before [.ref x] g K KX := by
  obtain ⟨d, rfl⟩ : ∃ d, D = d + 1 := ⟨D - 1, by omega⟩
  exact mX1_before (d := d) hok x (cx_jn (w := 5) (s := 1) hok hV hR hB (by omega) (by decide) (by omega) (by omega) (Or.inr ⟨0, by omega, nI_0.symm⟩) (by omega) rfl h)
theorem cs_next (hok : zOk X) (hV : zPv fi fa lg M P np sz) (hR : zRR X x fi fa lg M P np sz B g) (hB : B + 3000 ≤ zz X) {D : Nat} (hD : 120 ≤ D) (h : zck X x fi fa lg M P np sz B g K KX true 1 8 0 0) : zCal X D yX1_next wX1_next [.ref x] g K KX := by
  obtain ⟨d, rfl⟩ : ∃ d, D = d + 1 := ⟨D - 1, by omega⟩
  exact mX1_next (d := d) hok x (cx_jn (w := 8) (s := 1) hok hV hR hB (by omega) (by decide) (by omega) (by omega) (Or.inr ⟨0, by omega, nI_0.symm⟩) (by omega) rfl h)
theorem cs_since (hok : zOk X) (hV : zPv fi fa lg M P np sz) (hR : zRR X x fi fa lg M P np sz B g) (hB : B + 3000 ≤ zz X) {b : Int32} {D : Nat} (hD : 120 ≤ D) (h : zck X x fi fa lg M P np sz B g K KX (!(zIn b (-1) 1000 == 0)) 2 6 0 b) : zCal X D yX1_since wX1_since [.ref x, .int b] g K KX := by
  obtain ⟨d, rfl⟩ : ∃ d, D = d + 1 := ⟨D - 1, by omega⟩
  exact mX1_since (d := d) hok x b (cx_jb (w := 6) (s := 2) hok hV hR hB (by omega) (by decide) (by omega) (by omega) (by omega) h)
theorem cs_once (hok : zOk X) (hV : zPv fi fa lg M P np sz) (hR : zRR X x fi fa lg M P np sz B g) (hB : B + 3000 ≤ zz X) {b : Int32} {D : Nat} (hD : 120 ≤ D) (h : zck X x fi fa lg M P np sz B g K KX (!(zIn b (-1) 1000 == 0)) 1 7 0 b) : zCal X D yX1_once wX1_once [.ref x, .int b] g K KX := by
  obtain ⟨d, rfl⟩ : ∃ d, D = d + 1 := ⟨D - 1, by omega⟩
  exact mX1_once (d := d) hok x b (cx_jb (w := 7) (s := 1) hok hV hR hB (by omega) (by decide) (by omega) (by omega) (by omega) h)
theorem cs_until (hok : zOk X) (hV : zPv fi fa lg M P np sz) (hR : zRR X x fi fa lg M P np sz B g) (hB : B + 3000 ≤ zz X) {b : Int32} {D : Nat} (hD : 120 ≤ D) (h : zck X x fi fa lg M P np sz B g K KX (!(zIn b (-1) 1000 == 0)) 2 9 0 b) : zCal X D yX1_until wX1_until [.ref x, .int b] g K KX := by
  obtain ⟨d, rfl⟩ : ∃ d, D = d + 1 := ⟨D - 1, by omega⟩
  exact mX1_until (d := d) hok x b (cx_jb (w := 9) (s := 2) hok hV hR hB (by omega) (by decide) (by omega) (by omega) (by omega) h)
theorem cs_soon (hok : zOk X) (hV : zPv fi fa lg M P np sz) (hR : zRR X x fi fa lg M P np sz B g) (hB : B + 3000 ≤ zz X) {b : Int32} {D : Nat} (hD : 120 ≤ D) (h : zck X x fi fa lg M P np sz B g K KX (!(zIn b (-1) 1000 == 0)) 1 10 0 b) : zCal X D yX1_soon wX1_soon [.ref x, .int b] g K KX := by
  obtain ⟨d, rfl⟩ : ∃ d, D = d + 1 := ⟨D - 1, by omega⟩
  exact mX1_soon (d := d) hok x b (cx_jb (w := 10) (s := 1) hok hV hR hB (by omega) (by decide) (by omega) (by omega) (by omega) h)
theorem cs_many (hok : zOk X) (hV : zPv fi fa lg M P np sz) (hR : zRR X x fi fa lg M P np sz B g) (hB : B + 3000 ≤ zz X) {n b : Int32} {D : Nat} (hD : 120 ≤ D) (h : zck X x fi fa lg M P np sz B g K KX (!(zIn n 1 80 == 0) && !(zIn b (-1) 1000 == 0)) 1 11 n b) : zCal X D yX1_many wX1_many [.ref x, .int n, .int b] g K KX := by
  obtain ⟨d, rfl⟩ : ∃ d, D = d + 8 := ⟨D - 8, by omega⟩
  have hM6 := hV.2.2.1.1
  have hz : zGz g ≤ B := by
    obtain ⟨ad, fo, eo, mo, c, pt, -, -, h3⟩ := id hR
    omega
  have ch : (!(zIn n 1 80 == 0) && !(zIn b (-1) 1000 == 0)) = false → zCal X (d + 7) yX1_check wX1_check [.int 0] g (fun r g_3 => r = none ∧ False) KX := fun q => sp_check (d := d + 1) hok (fun z => absurd rfl z) (fun _ => ⟨by omega, h.2.1 q _ (zFe.sz _) ((hR.up hM6 7).mono (by omega))⟩)
  refine mX1_many (d := d + 7) hok x n b (cx_isIn hok ⟨_, rfl, zIn_bo _ _ _, fun z => ch (by simp [z]), fun n1 => cx_isBound (d := d + 6) hok ⟨_, rfl, zIn_bo _ _ _, fun z => ch (by simp [z]), fun n2 => sp_check (d := d + 1) hok (fun _ => ⟨rfl, ?_⟩) (fun z => absurd z (by decide))⟩⟩)
  exact cx_jn (w := 11) (s := 1) hok hV hR hB (by omega) (by decide) (by omega) (by omega) (zIn_bd n2) (by omega) (by simp [n1, n2]) h
end MK
