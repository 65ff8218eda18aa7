set_option maxRecDepth 100000
section PU5
variable {X : zX} {d : Nat} {x : Nat} {ad fo eo : Nat → Nat} {mo : Nat → Nat → Nat} {c : Nat → Nat × Nat × Nat} {pt : Nat → Nat} {fi : Nat → Int32} {fa : Nat → Nat → Int32} {lg : List Nat} {M P : Nat} {np sz : Nat → Nat} {B : Nat} {g g' : zG} {K : Option Value → zG → Prop} {KX : String → zG → Prop}
/-- put: a leaf, made just now -/
theorem cx_put (hok : zOk X) (hV : zPv fi fa lg M P np sz) (hJ : zWj fo mo M P np sz) (hW : zWd X x ad fo eo mo c pt fi fa lg M P np sz g) {a w : Nat} {n b : Int32} (hw : w < 12) (hay : zay w = 0) (hfr : zFr g a) (e1 : g' = zSz (zSo g 7 a [.ref (zE X w), .int n, .int b, .null, .null, .int 1, .int 0]) (zGz g + 1 + 7)) (h1 : w = 1 → (n = 0 ∨ n = 1 ∨ n = 2) ∧ -1000 ≤ b.toInt ∧ b.toInt ≤ 1000) (h2 : w ≠ 1 → b = -1 ∨ ∃ k : Nat, k ≤ 1000 ∧ b = nI k) (hz : zGz g + zpT pt + 500 ≤ zz X) {D : Nat} (hD : 8 ≤ D)
    (hK : P < 8 → ∀ g2 : zG, zFe (fun k => k = 67) g' g2 → zRR X x (zp1 (va_up fi 34 0) (zsum sz P) (P + 1)) (zp2 fa (zsum sz P) (nI w) n b 1 P) lg M (P + 1) np (zsu sz P 1) (zGz g + zpT pt + 8) g2 → zPv (zp1 (va_up fi 34 0) (zsum sz P) (P + 1)) (zp2 fa (zsum sz P) (nI w) n b 1 P) lg M (P + 1) np (zsu sz P 1) → K (some (.int (nI (P + 1)))) g2)
    (hx : ¬ P < 8 → KX RJ13 (zSz g' (zGz g' + 7))) : zCal X D yX1_put wX1_put [.ref x, .ref a] g' K KX := by
  obtain ⟨d, rfl⟩ : ∃ d, D = d + 8 := ⟨D - 8, by omega⟩
  have hM6 := hV.2.2.1.1
  have hP8 := hV.2.2.2.1.2.1
  have f1 : zFe (fun _ => False) g g' := by
    rw [e1]
    exact zFe.new hfr _
  have z1 : zGz g' = zGz g + 8 := by rw [e1]; rfl
  have ha : zGo g' 7 a = some [.ref (zE X w), .int n, .int b, .null, .null, .int 1, .int 0] := by rw [e1, zSz_o, zSo_o, zup_s]
  obtain ⟨w1, -, -, -, -, w6, -⟩ := id hW.1
  have w1' := f1.1 1 id _ _ w1
  have w6' := w6.fe f1 id
  have hp := zpT_le pt (j := 67) (by omega) (by omega)
  have hlen : ((List.range P).map (fun j => fo (zsum sz (j + 1) - 1))).length = P := by rw [List.length_map, List.length_range]
  refine mX1_put (d := d + 7) hok x a ⟨_, _, w1', rfl, w6'.is (by omega), ls_size hok w6' (by omega) ⟨_, rfl, fun c8 => sp_allow (d := d + 1) hok (fun z => absurd rfl z) (fun _ => ⟨by omega, hx (fun z => ?_)⟩), fun c8 => sp_allow (d := d + 1) hok (fun _ => ⟨rfl, _, _, w1', rfl, w6'.is (by omega), ?_⟩) (fun z => absurd z (by decide))⟩⟩
  · rw [hlen] at c8
    exact absurd c8 (show ¬ (nI 8 : Int32) ≤ nI P from nI_ge z (by omega))
  · have hPlt : P < 8 := by
      by_cases z : P < 8
      · exact z
      · rw [hlen] at c8
        exact absurd (show (nI 8 : Int32) ≤ nI P from nI_le (by omega) (by omega)) c8
    refine ls_add (d := d + 1) hok w6' (by omega) ⟨7, by omega, 7, _, ha, rfl⟩ (fun y hy => ?_) (by omega) (by omega) (fun g2 p2 b1 b2 b3 => ⟨_, rfl, Or.inr rfl, ?_⟩)
    · obtain ⟨j, hj, rfl⟩ := List.mem_map.mp hy
      have hj' := List.mem_range.mp hj
      obtain ⟨y, hy'⟩ := hW.1.2.2.2.2.2.2.2.2.2 _ ((hV.2.2.2.1.size hW.1.2.2.2.2.2.2.2.2.2 hj').2)
      exact ⟨7, by omega, 7, _, f1.1 7 id _ _ hy', rfl⟩
    · have f2 := b2.fe (by omega)
      have hsum : zsum (zsu sz (P - 0) 1) (P + 1) = zsum sz P + 1 := zsum_u1
      have hP' := zPv_put (n := n) (b := b) hV hw hay (Nat.zero_le P) (show zsS sz P 0 ≤ 24 by show 1 ≤ 24; omega) (show P + 1 - 0 ≤ 8 by omega) h1 h2
      have hq : zsum sz P < 192 := by
        have := hP'.2.2.2.1.le
        have h3 : zsum (zsu sz (P - 0) (zsS sz P 0)) (P + 1 - 0) = zsum sz P + 1 := hsum
        omega
      have hW1 : zWd X x ad fo eo mo c pt fi fa lg M P np sz g' := ⟨hW.1.fe f1 (fun _ _ _ _ _ _ => id) (fun _ _ _ => id) id id, fun i hi => (hW.2 i hi).fe (by omega) f1 (fun _ _ _ _ => id) id id id id⟩
      have hL : zLs X g2 67 (ad 8) ((List.range (P + 1)).map (fun j => (fun r => if r = zsum sz P then a else fo r) (zsum (zsu sz (P - 0) 1) (j + 1) - 1))) p2 := by
        rw [List.range_succ, List.map_append]
        have e : (List.range P).map (fun j => (fun r => if r = zsum sz P then a else fo r) (zsum (zsu sz (P - 0) 1) (j + 1) - 1)) = (List.range P).map (fun j => fo (zsum sz (j + 1) - 1)) := List.map_congr_left (fun j hj => by
          have hj' := List.mem_range.mp hj
          have h3 := (hV.2.2.2.1.size hW.1.2.2.2.2.2.2.2.2.2 hj').2
          show (if zsum (zsu sz (P - 0) 1) (j + 1) - 1 = zsum sz P then a else fo (zsum (zsu sz (P - 0) 1) (j + 1) - 1)) = _
          rw [zsum_u (j + 1) (by omega), if_neg (by omega)])
        rw [e]
        have e2 : ([P].map (fun j => (fun r => if r = zsum sz P then a else fo r) (zsum (zsu sz (P - 0) 1) (j + 1) - 1))) = [a] := by
          show [if zsum (zsu sz (P - 0) 1) (P + 1) - 1 = zsum sz P then a else _] = _
          rw [hsum, if_pos (by omega)]
        rw [e2]
        exact b1
      obtain ⟨f16, f17, f18, f19, -⟩ := zp2_16 (fa := fa) (zsum sz P) (nI w) n b (nI 1) (P - 0)
      have ha2 : zGo g2 7 a = some (zff X (zp2 fa (zsum sz P) (nI w) n b (nI 1) (P - 0)) 0 (fun r => if r = zsum sz P then a else fo r) (zsum sz P) 0) := by
        have e : zff X (zp2 fa (zsum sz P) (nI w) n b (nI 1) (P - 0)) 0 (fun r => if r = zsum sz P then a else fo r) (zsum sz P) 0 = [.ref (zE X w), .int n, .int b, .null, .null, .int 1, .int 0] := by
          unfold zff zfp1 zfp2
          rw [Nat.zero_add, f16, f17, f18, f19, pk_us, pk_us, pk_us, pk_us, nI_clamp (by omega), hay]
          rfl
        rw [e]
        exact f2.1 7 (by omega) _ _ ha
      have W2 := hW1.put (s := 0) (S := 1) hV.1.2.2.2.1 hM6 f2 (P' := P + 1) hq hsum hL ha2
      have w12 := W2.1.1
      have w62 := W2.1.2.2.2.2.2.1
      have hup := zpT_u pt p2 (k := 67) (by omega) (by omega)
      refine ⟨_, _, w12, rfl, w62.is (by omega), ls_size hok w62 (by omega) ⟨_, rfl, ?_⟩⟩
      rw [List.length_map, List.length_range]
      exact hK hPlt g2 f2 ⟨ad, _, eo, mo, c, _, W2, hJ.put hW hfr hq hsum, by omega⟩ hP'
end PU5
