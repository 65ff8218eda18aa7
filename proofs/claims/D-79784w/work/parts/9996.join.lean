set_option maxRecDepth 100000
theorem zrm_last {F : Nat → Nat} (m : Nat) : ((List.range (m + 1)).map F).eraseIdx m = (List.range m).map F := by
  have e : (List.range (m + 1)).map F = (List.range m).map F ++ [F m] := by rw [List.range_succ, List.map_append]; rfl
  rw [e, List.eraseIdx_append_of_length_le (by rw [List.length_map, List.length_range]; exact Nat.le_refl _), List.length_map, List.length_range, Nat.sub_self]
  exact List.append_nil _
section JN1
variable {X : zX} {d : Nat} {x : Nat} {ad : Nat → Nat} {fi : Nat → Int32} {P : Nat} {K : Option Value → zG → Prop} {KX : String → zG → Prop}
/-- join's loop: the last s parts go, and the new one comes -/
theorem cx_join_l (hok : zOk X) {g0 : zG} {F : Nat → Nat} {s a p : Nat} {fs : List Value} (w1 : zGo g0 1 x = some (zxs ad fi)) (ha : zGo g0 7 a = some fs) (hob : ∀ y ∈ (List.range P).map F, zob g0 y) (hs : s ≤ P) (hP : P ≤ 8) (hz : zGz g0 + p + 400 ≤ zz X) {E : zM} (C : zC X (d + 8) E RX1 cX1_join 9 (some .int) "join") (hQ : zQ X E K KX)
    (hK : ∀ (g' : zG) (p' : Nat), zLs X g' 67 (ad 8) ((List.range (P - s)).map F ++ [a]) p' → zFm 67 g0 g' → zGz g' + p' ≤ zGz g0 + p → K (some (.int (nI (P - s + 1)))) g') : ∀ (c k : Nat) (g : zG), s = k + c → zFk 67 g0 g → zLs X g 67 (ad 8) ((List.range (P - k)).map F) p → GW X E 9 g 128 [(0, .ref x), (2, .int (nI s)), (7, .ref a), (8, .int (nI k))] []
  | 0, k, g, hk, hF, hL => by
    have : s = k := by omega
    subst this
    have f := hF.fe (by omega)
    refine bX1_join_128 (d := d + 7) C hQ g _ _ _ _ ⟨fun _ => ⟨_, _, f.1 1 (by omega) _ _ w1, rfl, hL.is (by omega), ls_add (d := d + 1) hok hL (by omega) ⟨7, by omega, 7, _, f.1 7 (by omega) _ _ ha, rfl⟩ (fun y hy => hF.2.1 y (hob y ?_)) ?_ ?_ (fun g2 p2 b1 b2 b3 => ⟨_, rfl, Or.inr rfl, _, _, (b2.fe (by omega)).1 1 (by omega) _ _ (f.1 1 (by omega) _ _ w1), rfl, b1.is (by omega), ls_size hok b1 (by omega) ⟨_, rfl, ?_⟩⟩)⟩, fun z => absurd (nI_le (Nat.le_refl _) (by omega)) z⟩
    · obtain ⟨j, hj, rfl⟩ := List.mem_map.mp hy
      have := List.mem_range.mp hj
      exact List.mem_map_of_mem (List.mem_range.mpr (by omega))
    · rw [List.length_map, List.length_range]
      omega
    · rw [hF.2.2]
      exact hz
    · rw [List.length_append, List.length_map, List.length_range]
      exact hK g2 p2 b1 (hF.1.trans b2) (by rw [← hF.2.2]; exact b3)
  | c + 1, k, g, hk, hF, hL => by
    obtain ⟨m, hm⟩ : ∃ m, P - k = m + 1 := ⟨P - k - 1, by omega⟩
    have f := hF.fe (by omega)
    have w1' := f.1 1 (by omega) _ _ w1
    have e : nI (((List.range (P - k)).map F).length) - 1 = nI m := by
      rw [List.length_map, List.length_range, hm, nI_pred]
    refine bX1_join_128 (d := d + 7) C hQ g _ _ _ _ ⟨fun z => absurd z (nI_ge (by omega) (by omega)), fun _ => ⟨_, _, w1', rfl, _, _, w1', rfl, hL.is (by omega), ls_size hok hL (by omega) ⟨_, rfl, hL.is (by omega), ?_⟩⟩⟩
    rw [e]
    refine ls_remove (d := d + 5) hok hL (by omega) (by rw [List.length_map, List.length_range]; omega) (fun y hy => hF.2.1 y (hob y ?_)) (fun g2 b1 b2 => ⟨some _, rfl, ?_⟩)
    · obtain ⟨j, hj, rfl⟩ := List.mem_map.mp hy
      have := List.mem_range.mp hj
      exact List.mem_map_of_mem (List.mem_range.mpr (by omega))
    · rw [hm, zrm_last, show m = P - (k + 1) by omega] at b1
      rw [← nI_succ]
      exact cx_join_l hok w1 ha hob hs hP hz C hQ hK c (k + 1) g2 (by omega) (hF.trans b2) b1
end JN1
section JN2
variable {X : zX} {d : Nat} {x : Nat} {fi : Nat → Int32} {fa : Nat → Nat → Int32} {lg : List Nat} {M P : Nat} {np sz : Nat → Nat} {B : Nat} {g g' : zG} {K : Option Value → zG → Prop} {KX : String → zG → Prop}
/-- join -/
theorem cx_join (hok : zOk X) (hV : zPv fi fa lg M P np sz) (hR : zRR X x fi fa lg M P np sz B g) (hB : B + 3000 ≤ zz X) {w s : Nat} {n b : Int32} (hw : w < 12) (hay : zay w = s) (hs1 : 1 ≤ s) (hs2 : s ≤ 2) (h2 : b = -1 ∨ ∃ k : Nat, k ≤ 1000 ∧ b = nI k) {D : Nat} (hD : 20 ≤ D)
    (hK : zcM sz P s = true → ∀ g2 : zG, zFe zPc g g2 → zRR X x (zp1 (va_up fi 34 0) (zsum sz P) (P + 1 - s)) (zp2 fa (zsum sz P) (nI w) n b (nI (zsS sz P s)) (P - s)) lg M (P + 1 - s) np (zsu sz (P - s) (zsS sz P s)) (B + 2000) g2 → zPv (zp1 (va_up fi 34 0) (zsum sz P) (P + 1 - s)) (zp2 fa (zsum sz P) (nI w) n b (nI (zsS sz P s)) (P - s)) lg M (P + 1 - s) np (zsu sz (P - s) (zsS sz P s)) → K (some (.int (nI (P + 1 - s)))) g2)
    (hx : ¬ zcM sz P s = true → ∀ g2 : zG, zFe zPc g g2 → zRR X x fi fa lg M P np sz (B + 2000) g2 → KX RJ13 g2) : zCal X D yX1_join wX1_join [.ref x, .ref (zE X w), .int (nI s), .int n, .int b] g K KX := by
  obtain ⟨d, rfl⟩ : ∃ d, D = d + 8 := ⟨D - 8, by omega⟩
  have hM6 := hV.2.2.1.1
  have hP8 := hV.2.2.2.1.2.1
  have hS := hV.2.2.2.1
  have hle := hS.le
  have hR0 := hR
  obtain ⟨ad, fo, eo, mo, c, pt, hW, hJ, hz⟩ := hR
  obtain ⟨w1, -, -, -, -, w6, -⟩ := id hW.1
  have hp := zpT_le pt (j := 67) (by omega) (by omega)
  have hlen : ((List.range P).map (fun j => fo (zsum sz (j + 1) - 1))).length = P := by rw [List.length_map, List.length_range]
  refine mX1_join (d := d + 7) hok x _ _ _ _ (fun E C hQ => ⟨_, _, w1, rfl, w6.is (by omega), ls_size hok w6 (by omega) ⟨_, rfl, fun c8 => ?_, fun c8 => ?_⟩⟩)
  · refine bX1_join_18 (d := d + 7) C hQ g _ _ _ _ _ _ (sp_allow (d := d + 1) hok (fun z => absurd rfl z) (fun _ => ⟨by omega, hx (fun z => ?_) _ (zFe.sz _) ((hR0.up hM6 7).mono (by omega))⟩))
    rw [hlen] at c8
    exact absurd c8 (nI_nlt (zcM_i z).1 (by omega))
  rw [hlen] at c8
  have hsP : s ≤ P := by
    by_cases z : s ≤ P
    · exact z
    · exact absurd (nI_lt (by omega) (by omega)) c8
  have hF := hW.1.2.2.2.2.2.2.2.2.2
  have top : ∀ j, j < P → zob g (fo (zsum sz (j + 1) - 1)) := fun j hj => by
    obtain ⟨y, hy⟩ := hF _ ((hS.size hF hj).2)
    exact ⟨7, by omega, 7, _, hy, rfl⟩
  have is7 : ∀ j, j < P → zIs g 7 (fo (zsum sz (j + 1) - 1)) := fun j hj => by
    obtain ⟨y, hy⟩ := hF _ ((hS.size hF hj).2)
    exact ⟨7, _, hy, rfl⟩
  have get : ∀ (j : Nat) (v : Int32), j < P → v = nI j → ∀ {K' : Option Value → zG → Prop}, K' (some (.ref (fo (zsum sz (j + 1) - 1)))) g → zCal X (d + 7) yJ2_get wJ2_get [.ref (ad 8), .int v] g K' KX := fun j v hj hv K' h => by
    subst hv
    refine ls_get (d := d + 5) hok w6 (by omega) (i := j) (by rw [hlen]; exact hj) ?_
    rw [List.getElem_map, List.getElem_range]
    exact h
  have m1 : nI (((List.range P).map (fun j => fo (zsum sz (j + 1) - 1))).length) - 1 = nI (P - 1) := by
    rw [hlen]
    exact pk_sub (b := 1) (by omega)
  have m2 : s = 2 → nI (((List.range P).map (fun j => fo (zsum sz (j + 1) - 1))).length) - 2 = nI (P - 2) := fun z => by
    rw [hlen]
    exact pk_sub (b := 2) (by omega)
  have hS24 := zsS_le (sz := sz) (P := P) (fun j hj => (hS.2.2.1 j hj).2.2) s
  have last := hS.2.2.2.2.2 (P - 1) (by omega)
  rw [show P - 1 + 1 = P by omega] at last
  have lz := hS.2.2.1 (P - 1) (by omega)
  have hsP1 : zsum sz P = zsum sz (P - 1) + sz (P - 1) := by
    obtain ⟨q, rfl⟩ : ∃ q, P = q + 1 := ⟨P - 1, by omega⟩
    rfl
  -- behind the making
  have tail : ∀ (r1 r2 : Option Nat) (a : Nat) (g3 : zG), zFr g a → g3 = zSz (zSo g 7 a [.ref (zE X w), .int n, .int b, va_rf r1, va_rf r2, .int (nI (zsS sz P s)), .int 0]) (zGz g + 1 + 7) → (s = 1 → r1 = some (fo (zsum sz P - 1)) ∧ r2 = none) → (s = 2 → r1 = some (fo (zsum sz (P - 1) - 1)) ∧ r2 = some (fo (zsum sz P - 1))) →
      ∃ (k_25 : Nat) (fs_24 : List Value) (v_26 : Int32), zkc k_25 = 7 ∧ zGo g3 k_25 a = some fs_24 ∧ fs_24[5]? = some (.int v_26) ∧ (24 < v_26 → zCal X (d + 7) yX1_allow wX1_allow [.int 0] g3 (fun r g_27 => r = none ∧ False) KX) ∧ (¬ 24 < v_26 → zCal X (d + 7) yX1_allow wX1_allow [.int 1] g3 (fun r g_28 => r = none ∧ GW X E 9 g_28 128 [(0, .ref x), (2, .int (nI s)), (7, .ref a), (8, .int 0)] []) KX) := by
    intro r1 r2 a g3 hfr e3 hr1 hr2
    have f3 : zFe (fun _ => False) g g3 := by
      rw [e3]
      exact zFe.new hfr _
    have z3 : zGz g3 = zGz g + 8 := by rw [e3]; rfl
    have ha : zGo g3 7 a = some [.ref (zE X w), .int n, .int b, va_rf r1, va_rf r2, .int (nI (zsS sz P s)), .int 0] := by rw [e3, zSz_o, zSo_o, zup_s]
    refine ⟨7, _, _, rfl, ha, rfl, fun c24 => sp_allow (d := d + 1) hok (fun z => absurd rfl z) (fun _ => ⟨by omega, hx (fun z => ?_) _ ((f3.mono (fun _ h => h.elim)).trans (zFe.sz _)) ?_⟩), fun c24 => sp_allow (d := d + 1) hok (fun _ => ⟨rfl, ?_⟩) (fun z => absurd z (by decide))⟩
    · exact absurd c24 (show ¬ (nI 24 : Int32) < nI (zsS sz P s) from nI_nlt (zcM_i z).2 (by omega))
    · have := zRR.new (B := B + 8) hM6 hW hJ f3 (by omega)
      exact (this.up hM6 7).mono (by omega)
    have h24 : zsS sz P s ≤ 24 := by
      by_cases z : zsS sz P s ≤ 24
      · exact z
      · exact absurd (show (nI 24 : Int32) < nI (zsS sz P s) from nI_lt (by omega) (by omega)) c24
    have hcm : zcM sz P s = true := zcM_t hsP h24
    have hP' := zPv_put (n := n) (b := b) hV hw hay hsP h24 (show P + 1 - s ≤ 8 by omega) (fun z => by subst z; rw [show zay 1 = 0 from by decide] at hay; omega) (fun _ => h2)
    have hk : P + 1 - s = P - s + 1 := by omega
    have hsum : zsum (zsu sz (P - s) (zsS sz P s)) (P + 1 - s) = zsum sz P + 1 := by
      rw [hk, zsum_u1, zsum_s (sz := sz) hs2 hsP]
    have hq : zsum sz P < 192 := by
      have := hP'.2.2.2.1.le
      omega
    have w1' := f3.1 1 id _ _ w1
    have w6' := w6.fe f3 id
    rw [show (0 : Int32) = nI 0 from nI_0.symm]
    refine cx_join_l (d := d) hok w1' ha (fun y hy => ?_) hsP hP8 (p := pt 67) (by omega) C hQ (fun g4 p4 b1 b2 b3 => ?_) s 0 g3 (Nat.zero_add _).symm (zFk.rf _ _) w6'
    · obtain ⟨j, hj, rfl⟩ := List.mem_map.mp hy
      obtain ⟨ci, hci, k, fs, q1, q2⟩ := top j (List.mem_range.mp hj)
      exact ⟨ci, hci, k, fs, f3.1 k id _ _ q1, q2⟩
    have f4 := b2.fe (by omega)
    have hW1 : zWd X x ad fo eo mo c pt fi fa lg M P np sz g3 := ⟨hW.1.fe f3 (fun _ _ _ _ _ _ => id) (fun _ _ _ => id) id id, fun i hi => (hW.2 i hi).fe (by omega) f3 (fun _ _ _ _ => id) id id id id⟩
    have hL : zLs X g4 67 (ad 8) ((List.range (P + 1 - s)).map (fun j => (fun r => if r = zsum sz P then a else fo r) (zsum (zsu sz (P - s) (zsS sz P s)) (j + 1) - 1))) p4 := by
      rw [hk, List.range_succ, List.map_append]
      have e : (List.range (P - s)).map (fun j => (fun r => if r = zsum sz P then a else fo r) (zsum (zsu sz (P - s) (zsS sz P s)) (j + 1) - 1)) = (List.range (P - s)).map (fun j => fo (zsum sz (j + 1) - 1)) := List.map_congr_left (fun j hj => by
        have hj' := List.mem_range.mp hj
        have h3 := (hS.size hF (j := j) (by omega)).2
        show (if zsum (zsu sz (P - s) (zsS sz P s)) (j + 1) - 1 = zsum sz P then a else fo (zsum (zsu sz (P - s) (zsS sz P s)) (j + 1) - 1)) = _
        rw [zsum_u (j + 1) (by omega), if_neg (by omega)])
      rw [e]
      have e2 : ([P - s].map (fun j => (fun r => if r = zsum sz P then a else fo r) (zsum (zsu sz (P - s) (zsS sz P s)) (j + 1) - 1))) = [a] := by
        show [if zsum (zsu sz (P - s) (zsS sz P s)) (P - s + 1) - 1 = zsum sz P then a else _] = _
        rw [← hk, hsum, if_pos (by omega)]
      rw [e2]
      exact b1
    obtain ⟨f16, f17, f18, f19, -⟩ := zp2_16 (fa := fa) (zsum sz P) (nI w) n b (nI (zsS sz P s)) (P - s)
    have ha2 : zGo g4 7 a = some (zff X (zp2 fa (zsum sz P) (nI w) n b (nI (zsS sz P s)) (P - s)) 0 (fun r => if r = zsum sz P then a else fo r) (zsum sz P) 0) := by
      have e : zff X (zp2 fa (zsum sz P) (nI w) n b (nI (zsS sz P s)) (P - s)) 0 (fun r => if r = zsum sz P then a else fo r) (zsum sz P) 0 = [.ref (zE X w), .int n, .int b, va_rf r1, va_rf r2, .int (nI (zsS sz P s)), .int 0] := by
        have z1 : zf1 (zp2 fa (zsum sz P) (nI w) n b (nI (zsS sz P s)) (P - s)) 0 (zsum sz P) = zsum sz (P - 1) - 1 := by
          unfold zf1
          rw [f19, Nat.zero_add, pk_un (by omega), last, nI_clamp (by omega)]
          omega
        unfold zff zfp1 zfp2
        rw [z1, Nat.zero_add, f16, f17, f18, f19, pk_us, pk_us, pk_us, pk_us, nI_clamp (by omega), hay]
        have c1 : (if zsum sz P - 1 = zsum sz P then a else fo (zsum sz P - 1)) = fo (zsum sz P - 1) := if_neg (by omega)
        have c2 : (if zsum sz (P - 1) - 1 = zsum sz P then a else fo (zsum sz (P - 1) - 1)) = fo (zsum sz (P - 1) - 1) := if_neg (by omega)
        show [Value.ref (zE X w), Value.int n, Value.int b, va_rf (if s = 0 then none else if s = 1 then some (if zsum sz P - 1 = zsum sz P then a else fo (zsum sz P - 1)) else some (if zsum sz (P - 1) - 1 = zsum sz P then a else fo (zsum sz (P - 1) - 1))), va_rf (if s = 2 then some (if zsum sz P - 1 = zsum sz P then a else fo (zsum sz P - 1)) else none), Value.int (nI (zsS sz P s)), Value.int 0] = _
        rw [c1, c2]
        have : s = 1 ∨ s = 2 := by omega
        rcases this with q | q
        · rw [(hr1 q).1, (hr1 q).2, q]
          rfl
        · rw [(hr2 q).1, (hr2 q).2, q]
          rfl
      rw [e]
      exact f4.1 7 (by omega) _ _ ha
    have W2 := hW1.put hV.1.2.2.2.1 hM6 f4 hq hsum hL ha2
    have hup := zpT_u pt p4 (k := 67) (by omega) (by omega)
    have e := hK hcm g4 ((f3.mono (fun _ h => h.elim)).trans (f4.mono (fun k hk => by unfold zPc; omega))) ⟨ad, _, eo, mo, c, _, W2, hJ.put hW hfr hq hsum, by omega⟩ hP'
    rw [hk] at e
    exact e
  have sz1 : zfz g (some (fo (zsum sz P - 1))) (nI (sz (P - 1))) := by
    have := (hS.size hF (j := P - 1) (by omega)).1
    rw [show P - 1 + 1 = P by omega] at this
    exact this
  refine bX1_join_18 (d := d + 7) C hQ g _ _ _ _ _ _ (sp_allow (d := d + 1) hok (fun _ => ⟨rfl, _, _, w1, rfl, _, _, w1, rfl, w6.is (by omega), ls_size hok w6 (by omega) ⟨_, rfl, w6.is (by omega), get (P - 1) _ (by omega) m1 ⟨some _, rfl, _, rfl, is7 _ (by omega), fun c1 => ?_, fun c1 => ?_⟩⟩⟩) (fun z => absurd z (by decide)))
  · have s2 : s = 2 := by
      have : ¬ s = 1 := fun z => c1 (by rw [z]; rfl)
      omega
    refine ⟨_, _, w1, rfl, _, _, w1, rfl, w6.is (by omega), ls_size hok w6 (by omega) ⟨_, rfl, w6.is (by omega), get (P - 2) _ (by omega) (m2 s2) ⟨some _, rfl, _, rfl, is7 _ (by omega), 7, rfl, by omega, fun a hfr g1 e1 => ⟨fun _ => ?_, fun z => absurd z c1⟩⟩⟩⟩
    have h0 : zGo g1 7 a = some [.null, .int 0, .int 0, .null, .null, .int 0, .int 0] := by rw [e1, zSz_o, zSo_o, zup_s]
    have f1 : zFe (fun _ => False) g g1 := by
      rw [e1]
      exact zFe.new hfr _
    have ne : ∀ q, q < zsum sz P → fo q ≠ a := fun q hq z => by
      obtain ⟨y, hy⟩ := hF q hq
      rw [z, hfr.1 7] at hy
      cases hy
    have t1 := hS.size hF (j := P - 1) (by omega)
    have t2 := hS.size hF (j := P - 2) (by omega)
    have up : ∀ {r : Nat} {v : Int32}, zfz g (some r) v → zfz g1 (some r) v := fun ⟨fs, q1, q2⟩ => ⟨fs, f1.1 7 id _ _ q1, q2⟩
    refine cp_Formula (d := d + 6) hok h0 (r1 := some _) (r2 := some _) (up t2.1) (up t1.1) (fun z => ne _ t2.2 (Option.some.inj z)) (fun z => ne _ t1.2 (Option.some.inj z)) ⟨rfl, ?_⟩
    have e5 : (1 + nI (sz (P - 2)) + nI (sz (P - 1)) : Int32) = nI (zsS sz P s) := by
      rw [show (1 : Int32) = nI 1 from rfl, nI_add, nI_add, s2]
      show nI _ = nI (1 + (if 0 < P then sz (P - 1 - 0) else 0) + (if 1 < P then sz (P - 1 - 1) else 0))
      rw [if_pos (by omega), if_pos (by omega), Nat.sub_zero, show P - 1 - 1 = P - 2 by omega]
      congr 1
      omega
    rw [e5, e1, zSo_sz, zSo_so]
    exact tail _ _ a _ hfr rfl (fun z => by omega) (fun _ => ⟨by rw [show P - 2 + 1 = P - 1 by omega], by rw [show P - 1 + 1 = P by omega]⟩)
  · have s1 : s = 1 := (nI_eq (b := 1) (by omega) (by omega)).mp c1
    refine ⟨7, rfl, by omega, fun a hfr g1 e1 => ⟨fun z => absurd c1 z, fun _ => ?_⟩⟩
    have h0 : zGo g1 7 a = some [.null, .int 0, .int 0, .null, .null, .int 0, .int 0] := by rw [e1, zSz_o, zSo_o, zup_s]
    have f1 : zFe (fun _ => False) g g1 := by
      rw [e1]
      exact zFe.new hfr _
    have ne : ∀ q, q < zsum sz P → fo q ≠ a := fun q hq z => by
      obtain ⟨y, hy⟩ := hF q hq
      rw [z, hfr.1 7] at hy
      cases hy
    have t1 := hS.size hF (j := P - 1) (by omega)
    have up : ∀ {r : Nat} {v : Int32}, zfz g (some r) v → zfz g1 (some r) v := fun ⟨fs, q1, q2⟩ => ⟨fs, f1.1 7 id _ _ q1, q2⟩
    refine cp_Formula (d := d + 6) hok h0 (r1 := some _) (r2 := none) (up t1.1) rfl (fun z => ne _ t1.2 (Option.some.inj z)) (by simp) ⟨rfl, ?_⟩
    have e5 : (1 + nI (sz (P - 1)) + 0 : Int32) = nI (zsS sz P s) := by
      rw [show (1 : Int32) = nI 1 from rfl, nI_add, Int32.add_zero, s1]
      show nI _ = nI (1 + (if 0 < P then sz (P - 1 - 0) else 0))
      rw [if_pos (by omega), Nat.sub_zero]
    rw [e5, e1, zSo_sz, zSo_so]
    exact tail _ _ a _ hfr rfl (fun _ => ⟨by rw [show P - 1 + 1 = P by omega], rfl⟩) (fun z => by omega)
end JN2
