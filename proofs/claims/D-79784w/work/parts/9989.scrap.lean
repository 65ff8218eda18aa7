set_option maxRecDepth 100000
section SCR
variable {X : zX} {d : Nat} {x : Nat} {ad fo eo : Nat → Nat} {mo : Nat → Nat → Nat} {c : Nat → Nat × Nat × Nat} {pt pt' : Nat → Nat} {fi fi' : Nat → Int32} {fa fa' : Nat → Nat → Int32} {lg : List Nat} {M P : Nat} {np sz : Nat → Nat} {B : Nat} {g g' : zG} {Q : Nat → Prop} {K : Option Value → zG → Prop} {KX : String → zG → Prop}
theorem cs_scrap (hok : zOk X) (hV : zPv fi fa lg M P np sz) (hR : zRR X x fi fa lg M P np sz B g) {D : Nat} (hD : 2 ≤ D)
    (h1 : ∀ g' : zG, zFe zPc g g' → zRR X x (va_up (va_up (va_up fi 13 0) 15 0) 34 0) fa lg M 0 np sz B g' → zPv (va_up (va_up (va_up fi 13 0) 15 0) 34 0) fa lg M 0 np sz → K (some (.int (nI P))) g') : zCal X D yX1_scrap wX1_scrap [.ref x] g K KX := by
  obtain ⟨d, rfl⟩ : ∃ d, D = d + 1 := ⟨D - 1, by omega⟩
  obtain ⟨ad, fo, eo, mo, c, pt, hW, hJ, hz⟩ := hR
  have hM6 := hV.2.2.1.1
  have hlv := hV.1.2.2.2.1
  obtain ⟨w1, -, -, -, -, w6, -⟩ := id hW.1
  refine mX1_scrap (d := d) hok x ⟨_, _, w1, rfl, w6.is (by omega), ls_size hok w6 (by omega) ⟨_, rfl, _, _, w1, rfl, w6.is (by omega), ls_clear hok w6 (by omega) (fun g1 a1 a2 => ⟨rfl, ?_⟩)⟩⟩
  rw [List.length_map, List.length_range]
  have f1 := a2.fe (by omega)
  have hz1 : zGz g1 = zGz g := a2.2.2
  refine h1 g1 (f1.mono (fun k hk => by unfold zPc; omega)) ⟨ad, fo, eo, mo, c, pt, ?_, ?_, by omega⟩ ?_
  · have hW1 : zWd X x ad fo eo mo c pt (va_up (va_up (va_up fi 13 0) 15 0) 34 0) fa lg M P np sz g := hW.cg hlv ⟨⟨rfl, rfl, rfl, rfl⟩, rfl, fun _ _ _ _ _ => rfl, fun _ _ _ => ⟨fun _ _ => rfl, fun _ _ _ _ => rfl⟩, fun _ _ => ⟨rfl, rfl, rfl, fun _ _ => ⟨rfl, rfl⟩⟩⟩
    obtain ⟨⟨b1, b2, b3, b4, ⟨l, l1, l2, l3⟩, b6, b7, ⟨f, b8⟩, ⟨l9, b9⟩, b10⟩, wm⟩ := hW1
    refine ⟨⟨f1.1 1 (by omega) _ _ b1, f1.2.1 50 (by omega) _ _ b2, b3.fe f1 (by omega) (by omega), b4.fe f1 (by omega) (by omega), ⟨l, l1, l2.fe f1 (by omega), fun kd hkd => zTr.fr f1 (by omega) 14 _ _ _ _ (l3 kd hkd) (fun b l r fs k1 _ _ _ _ => ⟨f1.1 2 (by omega) _ _ k1, rfl⟩)⟩, a1, b7.fe f1 (by omega), ⟨f, f1.2.1 51 (by omega) _ _ b8⟩, ⟨l9, b9.fe f1 (by omega)⟩, fun q hq => absurd hq (Nat.not_lt_zero q)⟩, fun i hi => (wm i hi).fe (by omega) f1 (fun k _ _ _ => by omega) (by omega) (by omega) (by omega) (by omega)⟩
  · exact ⟨hJ.1, hJ.2.1, fun p q hp => absurd hp (Nat.not_lt_zero p), fun p i q hp => absurd hp (Nat.not_lt_zero p)⟩
  · obtain ⟨b1, b2, b3, b4, b5, b6, b7, b8, b9, b10, b11, b12, b13⟩ := hV
    refine ⟨b1, b2, b3, ⟨nI_0.symm, by omega, fun j hj => absurd hj (Nat.not_lt_zero j), nI_0.symm, fun p hp => absurd hp (Nat.not_lt_zero p), fun j hj => absurd hj (Nat.not_lt_zero j)⟩, b5, b6, b7, b8, fun q hq => absurd hq (Nat.not_lt_zero q), fun p hp => absurd hp (Nat.not_lt_zero p), b11, b12, fun i v hi hv => ?_⟩
    rw [b13 i v hi hv]
    exact (congrFun (zAn_sa (fi := fi) (fi' := va_up (va_up (va_up fi 13 0) 15 0) 34 0) (fa := fa) (fa' := fa) ⟨rfl, rfl, rfl, rfl, rfl, rfl, rfl, rfl, rfl, rfl, rfl⟩) v).symm
end SCR
