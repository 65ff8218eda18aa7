set_option maxRecDepth 100000
/-! explanations and mends, as the class looks for them -/
/-- whether a set does -/
def zPd (n p : Nat) (mb : Bool) (F : Nat → Bool) (y : Nat) : Bool := ((!zbt y p) == mb) && !(F (if mb = true then 2 ^ n - (y + 1) else y) == mb)
theorem zTs_P (n p : Nat) (mb : Bool) (F : Nat → Bool) : zTs n p mb F = fun x b => zPd n p mb F x && (b == 0 || zls (nI x) (nI b)) := by
  funext x b
  unfold zTs zPd
  cases ((!zbt x p) == mb) <;> cases (b == 0 || zls (nI x) (nI b)) <;> cases (!(F (if mb = true then 2 ^ n - (x + 1) else x) == mb)) <;> rfl
/-- the sets that the class looks through, of so many places -/
theorem zle_f {fi : Nat → Int32} {fa : Nat → Nat → Int32} {lg : List Nat} {i n p : Nat} {mb : Bool} (h16 : lg.length ≤ 16) : zle fi fa lg i n p mb = zlf (zPd lg.length p mb (zFw fi fa lg i n (zr lg p))) lg.length (if mb = true then 3 else 4) (fa 25 (80 * i + zr lg p) == 0) 5 1 := by
  unfold zle
  rw [zTs_P]
  exact zlo_f h16 5 1 (by omega)
theorem zsb_cg {lg : List Nat} {b b' : Nat → Bool} : ∀ k : Nat, (∀ j, j < k → b j = b' j) → zsb lg b k = zsb lg b' k
  | 0, _ => rfl
  | k + 1, h => by
    show zsb lg b k ++ _ = zsb lg b' k ++ _
    rw [zsb_cg k (fun j hj => h j (by omega)), h k (by omega)]
theorem zsb_sub {lg : List Nat} {b : Nat → Bool} : ∀ k : Nat, k ≤ lg.length → (zsb lg b k).Sublist (lg.take k)
  | 0, _ => List.Sublist.slnil
  | k + 1, h => by
    rw [zr_take (by omega)]
    show (zsb lg b k ++ _).Sublist _
    refine (zsb_sub k (by omega)).append ?_
    cases b k
    · exact List.nil_sublist _
    · exact List.Sublist.refl _
theorem zsb_sl {lg : List Nat} {b : Nat → Bool} : (zsb lg b lg.length).Sublist lg := by
  have := zsb_sub (lg := lg) (b := b) lg.length (Nat.le_refl _)
  rw [List.take_length] at this
  exact this
theorem zbt_d (s k : Nat) : s / 2 ^ k % 2 = if zbt s k = true then 1 else 0 := by
  unfold zbt
  by_cases c : s / 2 ^ k % 2 = 1
  · rw [c]
    rfl
  · rw [if_neg (by simpa using c)]
    omega
theorem zsb_on {lg : List Nat} {s : Nat} : ∀ k : Nat, (zsb lg (zbt s) k).length = zon1 s k
  | 0 => rfl
  | k + 1 => by
    show (zsb lg (zbt s) k ++ (if zbt s k = true then [zr lg k] else [])).length = zon1 s k + s / 2 ^ k % 2
    rw [List.length_append, zsb_on k, zbt_d]
    cases zbt s k <;> rfl
theorem zon1_hi {s n : Nat} (hs : s < 2 ^ n) : ∀ c : Nat, zon1 s (n + c) = zon1 s n
  | 0 => rfl
  | c + 1 => by
    show zon1 s (n + c) + s / 2 ^ (n + c) % 2 = _
    rw [zon1_hi hs c, Nat.div_eq_of_lt (Nat.lt_of_lt_of_le hs (Nat.pow_le_pow_right (by omega) (by omega)))]
    rfl
theorem zsb_hi {lg : List Nat} {s j : Nat} (hs : s < 2 ^ j) : ∀ c : Nat, zsb lg (zbt s) (j + c) = zsb lg (zbt s) j
  | 0 => rfl
  | c + 1 => by
    have : zbt s (j + c) = false := by
      rw [zbt_t]
      exact Nat.testBit_lt_two_pow (Nat.lt_of_lt_of_le hs (Nat.pow_le_pow_right (by omega) (by omega)))
    show zsb lg (zbt s) (j + c) ++ (if zbt s (j + c) = true then _ else []) = _
    rw [this, zsb_hi hs c]
    exact List.append_nil _
/-- a set with one place more -/
theorem zsb_more {lg : List Nat} {x j : Nat} (hx : x < 2 ^ j) (hj : j < lg.length) : zsb lg (zbt (x + 2 ^ j)) lg.length = zsb lg (zbt x) lg.length ++ [zr lg j] := by
  have hp : 2 ^ (j + 1) = 2 ^ j * 2 := Nat.pow_succ 2 j
  have e1 := zsb_hi (lg := lg) (s := x + 2 ^ j) (j := j + 1) (by omega) (lg.length - (j + 1))
  have e2 := zsb_hi (lg := lg) (s := x) (j := j) hx (lg.length - j)
  rw [show j + 1 + (lg.length - (j + 1)) = lg.length by omega] at e1
  rw [show j + (lg.length - j) = lg.length by omega] at e2
  rw [e1, e2]
  have hb : zbt (x + 2 ^ j) j = true := by
    rw [zbt_t, Nat.add_comm, Nat.testBit_two_pow_add_eq, Nat.testBit_lt_two_pow hx]
    rfl
  have hl : zsb lg (zbt (x + 2 ^ j)) j = zsb lg (zbt x) j := zsb_cg j (fun i hi => by rw [zbt_t, zbt_t, Nat.add_comm, Nat.testBit_two_pow_add_gt hi])
  show zsb lg (zbt (x + 2 ^ j)) j ++ (if zbt (x + 2 ^ j) j = true then [zr lg j] else []) = _
  rw [hb, hl]
  rfl
theorem zsb_in {lg : List Nat} {b : Nat → Bool} (hn : lg.Nodup) {k : Nat} (hk : k < lg.length) : zr lg k ∈ zsb lg b lg.length ↔ b k = true := by
  rw [zsb_mem]
  constructor
  · rintro ⟨j, h1, h2, h3⟩
    rw [← zr_inj hn h1 hk h3]
    exact h2
  · exact fun h => ⟨k, hk, h, rfl⟩
section CHS
variable {X : zX} {d : Nat} {x : Nat} {ad fo eo : Nat → Nat} {mo : Nat → Nat → Nat} {c : Nat → Nat × Nat × Nat} {pt pt' : Nat → Nat} {fi fi' : Nat → Int32} {fa fa' : Nat → Nat → Int32} {lg : List Nat} {M P : Nat} {np sz : Nat → Nat} {B : Nat} {g g' : zG} {Q : Nat → Prop} {K : Option Value → zG → Prop} {KX : String → zG → Prop}
/-- the list of what is left over, used anew -/
theorem zWd.left (h : zWd X x ad fo eo mo c pt fi fa lg M P np sz g) (hM : M ≤ 6) (e : zFe (fun k => k = 69) g g') {l' : List Nat} {p' : Nat} (hL : zLs X g' 69 (ad 11) l' p') : zWd X x ad fo eo mo c (zpu pt 69 p') fi fa lg M P np sz g' := by
  obtain ⟨⟨b1, b2, b3, b4, ⟨l, l1, l2, l3⟩, b6, b7, ⟨f, b8⟩, -, b10⟩, wm⟩ := h
  have n (k : Nat) (hk : k ≠ 69) : zpu pt 69 p' k = pt k := zpu_n _ _ hk
  refine ⟨⟨e.1 1 (by omega) _ _ b1, e.2.1 50 (by omega) _ _ b2, by rw [n 64 (by omega)]; exact b3.fe e (by omega) (by omega), by rw [n 65 (by omega)]; exact b4.fe e (by omega) (by omega), ⟨l, l1, by rw [n 66 (by omega)]; exact l2.fe e (by omega), fun kd hkd => zTr.fr e (by omega) 14 _ _ _ _ (l3 kd hkd) (fun b l r fs k1 _ _ _ _ => ⟨e.1 2 (by omega) _ _ k1, rfl⟩)⟩, by rw [n 67 (by omega)]; exact b6.fe e (by omega), by rw [n 68 (by omega)]; exact b7.fe e (by omega), ⟨f, e.2.1 51 (by omega) _ _ b8⟩, ⟨l', by rw [zpu_s]; exact hL⟩, b10.fe e (by omega)⟩, fun i hi => ?_⟩
  obtain ⟨a1, ⟨q, a2⟩, a3⟩ := wm i hi
  exact ⟨a1.fe (by omega) e (by omega) (by omega) (by omega) (by omega) (by omega) (by omega), ⟨q, by rw [n _ (by omega)]; exact a2.fe e (by omega)⟩, by rw [n _ (by omega)]; exact a3.fe e (by omega) (by omega)⟩
/-- what does may change -/
def zPe (k : Nat) : Prop := k = 69 ∨ k = 1051 ∨ (80 ≤ k ∧ k < 98) ∨ (1052 ≤ k ∧ k < 1058)
theorem cx_does_l (hok : zOk X) (hV : zPv fi fa lg M P np sz) {bl y pb a1 a2 : Nat} (hB : ∀ g1 : zG, zFe (fun k => k = 69) g g1 → zLs X g1 73 bl ((zsb lg (zbt y) lg.length).map eo) pb) {E : zM} (C : zC X (d + 8) E RX1 cX1_does 6 (some .boolean) "does") (hQ : zQ X E K KX) (hz : zGz g + zpT pt + 500 ≤ zz X)
    (hK : ∀ (g' : zG) (pt' : Nat → Nat), zFe (fun k => k = 69) g g' → zGz g' + zpT pt' ≤ zGz g + zpT pt → zWd X x ad fo eo mo c pt' fi fa lg M P np sz g' → zLs X g' 69 (ad 11) ((zsb lg (fun k => !zbt y k) lg.length).map eo) (pt' 69) → GW X E 6 g' 95 [(0, .ref x), (1, .ref a1), (2, .ref a2), (3, .int 0), (4, .ref bl)] []) : ∀ (cc k : Nat) (g1 : zG) (pt1 : Nat → Nat), lg.length = k + cc → zFe (fun k => k = 69) g g1 → zGz g1 + zpT pt1 ≤ zGz g + zpT pt → zWd X x ad fo eo mo c pt1 fi fa lg M P np sz g1 → zLs X g1 69 (ad 11) ((zsb lg (fun k => !zbt y k) k).map eo) (pt1 69) → GW X E 6 g1 26 [(0, .ref x), (1, .ref a1), (2, .ref a2), (3, .int 0), (4, .ref bl), (5, .int (nI k))] []
  | 0, k, g1, pt1, hc, hF, hz1, hW, hL => by
    have h80 := hV.1.2.1
    have : lg.length = k := by omega
    subst this
    obtain ⟨w1, -, -, w4, -⟩ := id hW.1
    exact bX1_does_26 (d := d + 7) C hQ g1 _ _ _ _ _ _ ⟨_, _, w1, rfl, w4.1.is (by omega), ls_size hok w4.1 (by omega) ⟨_, rfl, fun _ => hK g1 pt1 hF hz1 hW hL, fun z => absurd (show nI _ ≤ nI lg.length by rw [List.length_map]; exact Int32.le_refl _) z⟩⟩
  | cc + 1, k, g1, pt1, hc, hF, hz1, hW, hL => by
    have h80 := hV.1.2.1
    have hM6 := hV.2.2.1.1
    have hn := hV.1.2.2.1
    have hlv := hV.1.2.2.2.1
    have hk : k < lg.length := by omega
    obtain ⟨w1, -, -, w4, -⟩ := id hW.1
    have hev := w4.2 _ (zr_mem hk)
    have hB1 := hB g1 hF
    have p69 := zpT_le pt1 (j := 69) (by omega) (by omega)
    have get : ∀ {K' : Option Value → zG → Prop}, K' (some (.ref (eo (zr lg k)))) g1 → zCal X (d + 7) yJ2_get wJ2_get [.ref (ad 3), .int (nI k)] g1 K' KX := fun h => ls_getm (d := d + 5) hok w4.1 (by omega) hk h
    have hst : zsb lg (fun k => !zbt y k) (k + 1) = zsb lg (fun k => !zbt y k) k ++ (if (!zbt y k) = true then [zr lg k] else []) := rfl
    have hcon : (eo (zr lg k) ∈ (zsb lg (zbt y) lg.length).map eo) ↔ zbt y k = true := by
      rw [← zsb_in hn hk]
      constructor
      · intro h
        obtain ⟨u, hu, e⟩ := List.mem_map.mp h
        have hul := zsb_sl.subset hu
        rw [← zef_inj (w4.2 u hul) hev (by have := hlv u hul; omega) (by have := hlv _ (zr_mem hk); omega) e]
        exact hu
      · exact fun h => List.mem_map_of_mem h
    have next : ∀ (g2 : zG) (pt2 : Nat → Nat), zFe (fun k => k = 69) g1 g2 → zGz g2 + zpT pt2 ≤ zGz g1 + zpT pt1 → zWd X x ad fo eo mo c pt2 fi fa lg M P np sz g2 → zLs X g2 69 (ad 11) ((zsb lg (fun k => !zbt y k) (k + 1)).map eo) (pt2 69) → GW X E 6 g2 26 [(0, .ref x), (1, .ref a1), (2, .ref a2), (3, .int 0), (4, .ref bl), (5, .int (nI k + 1))] [] := fun g2 pt2 e1 e2 e3 e4 => by
      rw [← nI_succ]
      exact cx_does_l hok hV hB C hQ hz hK cc (k + 1) g2 pt2 (by omega) (hF.trans e1) (by omega) e3 e4
    refine bX1_does_26 (d := d + 7) C hQ g1 _ _ _ _ _ _ ⟨_, _, w1, rfl, w4.1.is (by omega), ls_size hok w4.1 (by omega) ⟨_, rfl, fun z => absurd z (by rw [List.length_map]; exact nI_ge hk (by omega)), fun _ => ⟨fun z => absurd rfl z, fun _ => ⟨_, _, w1, rfl, w4.1.is (by omega), get ⟨some _, rfl, hB1.is (by omega), ?_⟩⟩⟩⟩⟩
    refine ls_contains (d := d + 4) hok hB1 (by omega) ⟨4, _, hev, rfl⟩ ⟨_, rfl, ?_, fun c1 => ?_, fun c1 => ⟨_, _, w1, rfl, _, _, w1, rfl, w4.1.is (by omega), get ⟨some _, rfl, _, rfl, ⟨4, _, hev, rfl⟩, hL.is (by omega), ?_⟩⟩⟩
    · split
      · exact Or.inr rfl
      · exact Or.inl rfl
    · have hb : zbt y k = true := by
        by_cases q : eo (zr lg k) ∈ (zsb lg (zbt y) lg.length).map eo
        · exact hcon.mp q
        · rw [if_neg q] at c1
          exact absurd rfl c1
      refine next g1 pt1 (zFe.rf _ _) (Nat.le_refl _) hW ?_
      rw [hst, hb]
      show zLs X g1 69 (ad 11) ((zsb lg (fun k => !zbt y k) k ++ []).map eo) (pt1 69)
      rw [List.append_nil]
      exact hL
    · have hb : zbt y k = false := by
        cases q : zbt y k with
        | false => rfl
        | true =>
          rw [if_pos (hcon.mpr q)] at c1
          exact absurd c1 (by decide)
      have hlen := zsb_len lg (fun k => !zbt y k) k
      refine ls_add (d := d + 1) hok hL (by omega) (zob_e hev) (fun u hu => ?_) (by rw [List.length_map]; omega) (by omega) (fun g2 p2 b1 b2 b3 => ⟨_, rfl, Or.inr rfl, ?_⟩)
      · obtain ⟨v, hv, rfl⟩ := List.mem_map.mp hu
        obtain ⟨j, j1, -, j3⟩ := zsb_mem.mp hv
        exact zob_e (w4.2 v (by rw [← j3]; exact zr_mem (by omega)))
      · have f2 := b2.fe (by omega)
        have hup := zpT_u pt1 p2 (k := 69) (by omega) (by omega)
        refine next g2 (zpu pt1 69 p2) f2 (by omega) (hW.left hM6 f2 b1) ?_
        rw [zpu_s, hst, hb, List.map_append]
        exact b1
theorem cx_does (hok : zOk X) (hV : zPv fi fa lg M P np sz) (hJ : zWj fo mo M P np sz) (h16 : lg.length ≤ 16) {i p bl y pb : Nat} {mb : Bool} (hi : i < M) (hp : p < lg.length) (hy : y < 2 ^ lg.length) (hW : zWd X x ad fo eo mo c pt fi fa lg M P np sz g) (hB : zLs X g 73 bl ((zsb lg (zbt y) lg.length).map eo) pb) (hz : zGz g + zpT pt + 500 ≤ zz X) {D : Nat} (hD : 120 ≤ D)
    (hK : ∀ (g' : zG) (pt' : Nat → Nat), zFe zPe g g' → zGz g' + zpT pt' ≤ zGz g + zpT pt → zWd X x ad fo eo mo c pt' fi fa lg M P np sz g' → K (some (.int (zbI (zPd lg.length p mb (zFw fi fa lg i (np i) (zr lg p)) y)))) g') : zCal X D yX1_does wX1_does [.ref x, .ref (mo i 0), .ref (eo (zr lg p)), .int (zbI (!mb)), .ref bl] g K KX := by
  obtain ⟨d, rfl⟩ : ∃ d, D = d + 8 := ⟨D - 8, by omega⟩
  have h80 := hV.1.2.1
  have hM6 := hV.2.2.1.1
  have hn := hV.1.2.2.1
  have hlv := hV.1.2.2.2.1
  have hLi := hV.2.2.2.2.1
  have hmem := zr_mem hp
  obtain ⟨w1, -, -, w4, -, -, -, -, ⟨l9, w9⟩, -⟩ := id hW.1
  have hev := w4.2 _ hmem
  have hcon : (eo (zr lg p) ∈ (zsb lg (zbt y) lg.length).map eo) ↔ zbt y p = true := by
    rw [← zsb_in hn hp]
    constructor
    · intro h
      obtain ⟨u, hu, e⟩ := List.mem_map.mp h
      have hul := zsb_sl.subset hu
      rw [← zef_inj (w4.2 u hul) hev (by have := hlv u hul; omega) (by have := hlv _ hmem; omega) e]
      exact hu
    · exact fun h => List.mem_map_of_mem h
  have hcv : (if eo (zr lg p) ∈ (zsb lg (zbt y) lg.length).map eo then (1 : Int32) else 0) = zbI (zbt y p) := by
    by_cases q : zbt y p = true
    · rw [if_pos (hcon.mpr q), q]
      rfl
    · rw [if_neg (fun z => q (hcon.mp z)), show zbt y p = false by simpa using q]
      rfl
  refine mX1_does (d := d + 7) hok x _ _ _ bl (fun E C hQ => ⟨hB.is (by omega), ls_contains (d := d + 4) hok hB (by omega) ⟨4, _, hev, rfl⟩ ?_⟩)
  rw [hcv]
  refine ⟨_, rfl, zbI_b _, fun c1 => ⟨_, _, w1, rfl, w9.is (by omega), ls_clear hok w9 (by omega) (fun g1 a1 a2 => ⟨rfl, ?_⟩)⟩, fun c1 => ?_⟩
  · have hbm : zbt y p = !mb := zbI_e.mp c1
    have f1 := a2.fe (by omega)
    have z1 : zGz g1 = zGz g := a2.2.2
    have hW1 : zWd X x ad fo eo mo c (zpu pt 69 (pt 69)) fi fa lg M P np sz g1 := hW.left hM6 f1 a1
    have hup := zpT_u pt (pt 69) (k := 69) (by omega) (by omega)
    -- behind the leaving out: the answer
    have fin : ∀ (g2 : zG) (pt2 : Nat → Nat) (al tl ql s : Nat), (tl = 69 ∨ tl = 73) → s = (if mb = true then 2 ^ lg.length - (y + 1) else y) → zFe (fun k => k = 69) g g2 → zGz g2 + zpT pt2 ≤ zGz g + zpT pt → zWd X x ad fo eo mo c pt2 fi fa lg M P np sz g2 → zLs X g2 tl al ((zsb lg (zbt s) lg.length).map eo) ql → GW X E 6 g2 110 [(3, .int (zbI (!mb)))] [.ref al, .ref (eo (zr lg p)), .ref (mo i 0)] := by
      intro g2 pt2 al tl ql s htl hs e1 e2 e3 e4
      obtain ⟨v1, -, v3, v4, -, -, -, ⟨f8, v8⟩, -⟩ := id e3.1
      obtain ⟨m1, ⟨l0, m2⟩, m3⟩ := e3.2 i hi
      have hp82 := zpT_le pt2 (j := 82 + 3 * i) (by omega) (by omega)
      have hsb : zbt s p = true := by
        rw [hs]
        cases mb with
        | true =>
          rw [if_pos rfl, zbt_n hy hp, hbm]
          rfl
        | false =>
          rw [if_neg (by decide), hbm]
          rfl
      refine bX1_does_110 (d := d + 7) C hQ g2 _ _ _ _ ⟨⟨8, _, m1.1, rfl⟩, mt_answerFor hok (by omega) (hV.2.2.2.2.2.2.2.1 i hi).1 (hJ.1 i hi) (tl := tl) (by omega) (by omega) (by omega) (hLi.sub zsb_sl) hV.2.2.2.2.2.1 h80 (hlv _ hmem) ((zsb_in hn hp).mpr hsb) (q0 := pt2 (82 + 3 * i)) (by omega) (by omega) v3 m1 m2 ⟨e4, fun u hu => v4.2 u (zsb_sl.subset hu)⟩ (fun g3 q3 l3 b1 b2 b3 b4 => ⟨_, rfl, ?_⟩)⟩
      have b1' : zFe (zPf i) g2 g3 := b1.mono (fun k hk => Or.inl hk)
      have hW3 := e3.rw' hM6 hi b1' b4 b3 (b1.2.1 51 (by unfold zPr; omega) _ _ v8)
      have hup3 := zpT_u pt2 q3 (k := 82 + 3 * i) (by omega) (by omega)
      have done := hK g3 _ ((e1.mono (fun k hk => Or.inl hk)).trans (b1'.mono (fun k hk => by unfold zPf zPr at hk; omega))) (by omega) hW3
      have hpd : zPd lg.length p mb (zFw fi fa lg i (np i) (zr lg p)) y = ((zAn fi fa i (np i) (zsb lg (zbt s) lg.length) lg.length (zr lg p) == 0) == !mb) := by
        unfold zPd zFw
        rw [hbm, ← hs]
        cases mb <;> cases (zAn fi fa i (np i) (zsb lg (zbt s) lg.length) lg.length (zr lg p) == 0) <;> rfl
      rw [hpd] at done
      refine ⟨fun c2 => ?_, fun c2 => ?_⟩
      · rw [beq_eq_false_iff_ne.mpr c2] at done
        cases mb with
        | true => exact ⟨fun z => absurd rfl z, fun _ => done⟩
        | false => exact ⟨fun _ => done, fun z => absurd z (by decide)⟩
      · rw [beq_iff_eq.mpr c2] at done
        cases mb with
        | true => exact ⟨fun _ => done, fun z => absurd z (by decide)⟩
        | false => exact ⟨fun z => absurd rfl z, fun _ => done⟩
    cases mb with
    | true =>
      rw [show (0 : Int32) = nI 0 from nI_0.symm]
      show GW X E 6 g1 26 [(0, .ref x), (1, .ref (mo i 0)), (2, .ref (eo (zr lg p))), (3, .int (zbI (!true))), (4, .ref bl), (5, .int (nI 0))] []
      refine cx_does_l (g := g1) (pt := zpu pt 69 (pt 69)) (d := d) hok hV (fun g2 h2 => (hB.fe f1 (by omega)).fe h2 (by omega)) C hQ (by omega) (fun g2 pt2 e1 e2 e3 e4 => ?_) lg.length 0 g1 (zpu pt 69 (pt 69)) (Nat.zero_add _).symm (zFe.rf _ _) (Nat.le_refl _) hW1 (by rw [zpu_s]; exact a1)
      obtain ⟨v1, -⟩ := id e3.1
      refine bX1_does_95 (d := d + 7) C hQ g2 _ _ _ _ _ ⟨fun _ => ⟨_, _, v1, rfl, fin g2 pt2 (ad 11) 69 (pt2 69) (2 ^ lg.length - (y + 1)) (Or.inl rfl) rfl (f1.trans e1) (by omega) e3 ?_⟩, fun z => absurd rfl z⟩
      rw [zsb_cg lg.length (fun j hj => zbt_n hy hj)]
      exact e4
    | false =>
      have hgo : GW X E 6 g1 95 [(0, .ref x), (1, .ref (mo i 0)), (2, .ref (eo (zr lg p))), (3, .int (zbI (!false))), (4, .ref bl)] [] := bX1_does_95 (d := d + 7) C hQ g1 _ _ _ _ _ ⟨fun z => absurd z (by decide), fun _ => fin g1 _ bl 73 pb y (Or.inr rfl) rfl f1 (by omega) hW1 (hB.fe f1 (by omega))⟩
      obtain ⟨v1, -, -, v4, -⟩ := id hW1.1
      refine bX1_does_26 (d := d + 7) C hQ g1 _ _ _ _ _ _ ⟨_, _, v1, rfl, v4.1.is (by omega), ls_size hok v4.1 (by omega) ⟨_, rfl, fun _ => hgo, fun _ => ⟨fun _ => hgo, fun z => absurd z (by decide)⟩⟩⟩
  · have hbm : ¬ zbt y p = !mb := fun z => c1 (by rw [z])
    have := hK g pt (zFe.rf _ _) (Nat.le_refl _) hW
    have hpd : zPd lg.length p mb (zFw fi fa lg i (np i) (zr lg p)) y = false := by
      unfold zPd
      have : ((!zbt y p) == mb) = false := by
        cases h : zbt y p <;> cases mb <;> simp_all
      rw [this, Bool.false_and]
    rw [hpd] at this
    exact this
end CHS
