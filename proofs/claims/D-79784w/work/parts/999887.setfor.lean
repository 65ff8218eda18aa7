set_option maxRecDepth 100000
def zPg (k : Nat) : Prop := zPe k ∨ k = 73
section STF
variable {X : zX} {d : Nat} {x : Nat} {ad fo eo : Nat → Nat} {mo : Nat → Nat → Nat} {c : Nat → Nat × Nat × Nat} {pt pt' : Nat → Nat} {fi fi' : Nat → Int32} {fa fa' : Nat → Nat → Int32} {lg : List Nat} {M P : Nat} {np sz : Nat → Nat} {B : Nat} {g g' : zG} {Q : Nat → Prop} {K : Option Value → zG → Prop} {KX : String → zG → Prop}
/-- choose, of need places more -/
def zChS (X : zX) (x : Nat) (ad fo eo : Nat → Nat) (mo : Nat → Nat → Nat) (c : Nat → Nat × Nat × Nat) (fi : Nat → Int32) (fa : Nat → Nat → Int32) (lg : List Nat) (M P : Nat) (np sz : Nat → Nat) (bl i p : Nat) (mb : Bool) (many need : Nat) : Prop :=
  ∀ (cc j xm D : Nat) (g : zG) (pt : Nat → Nat) (pb : Nat) (K : Option Value → zG → Prop) (KX : String → zG → Prop), need + 122 ≤ D → lg.length = j + cc → xm < 2 ^ j → (zsb lg (zbt xm) lg.length).length + need = many → zGz g + zpT pt + pb + 600 ≤ zz X → zWd X x ad fo eo mo c pt fi fa lg M P np sz g → zLs X g 73 bl ((zsb lg (zbt xm) lg.length).map eo) pb →
    (∀ (g' : zG) (pt' : Nat → Nat) (pb' : Nat) (r : Option Nat), r = (zlm cc j need xm).find? (zPd lg.length p mb (zFw fi fa lg i (np i) (zr lg p))) → zFe zPg g g' → zGz g' + zpT pt' + pb' ≤ zGz g + zpT pt + pb → zWd X x ad fo eo mo c pt' fi fa lg M P np sz g' → zLs X g' 73 bl ((zsb lg (zbt (r.getD xm)) lg.length).map eo) pb' → K (some (va_rf (r.map (fun _ => bl)))) g') →
    zCal X D yX1_choose wX1_choose [.ref x, .ref (mo i 0), .ref (eo (zr lg p)), .int (zbI (!mb)), .ref bl, .int (nI j), .int (nI many)] g K KX
theorem cx_choose_0 (hok : zOk X) (hV : zPv fi fa lg M P np sz) (hJ : zWj fo mo M P np sz) (h16 : lg.length ≤ 16) {i p bl many : Nat} {mb : Bool} (hi : i < M) (hp : p < lg.length) : zChS X x ad fo eo mo c fi fa lg M P np sz bl i p mb many 0 := by
  intro cc j xm D g pt pb K KX hD hlen hx hm hz hW hL hK
  obtain ⟨d, rfl⟩ : ∃ d, D = d + 1 := ⟨D - 1, by omega⟩
  have hle := zsb_len lg (zbt xm) lg.length
  have hxn : xm < 2 ^ lg.length := Nat.lt_of_lt_of_le hx (Nat.pow_le_pow_right (by omega) (by omega))
  refine mX1_choose (d := d) hok x _ _ _ bl _ _ (fun E C hQ => ⟨hL.is (by omega), ls_size hok hL (by omega) ⟨_, rfl, fun z => absurd (by rw [List.length_map, ← hm, Nat.add_zero]) z, fun _ => ⟨⟨1, _, hW.1.1, rfl⟩, cx_does hok hV hJ h16 hi hp hxn hW hL (by omega) (by omega) (fun g1 pt1 a1 a2 a3 => ⟨_, rfl, zbI_b _, fun c1 => ?_, fun c1 => ?_⟩)⟩⟩⟩)
  · have hf : zPd lg.length p mb (zFw fi fa lg i (np i) (zr lg p)) xm = false := zbI_0.mp c1
    have e : (zlm cc j 0 xm).find? (zPd lg.length p mb (zFw fi fa lg i (np i) (zr lg p))) = none := by
      rw [zlm_0, List.find?_cons_of_neg (by rw [hf]; decide)]
      rfl
    exact hK g1 pt1 pb none e.symm (a1.mono (fun k hk => Or.inl hk)) (by omega) a3 (hL.fe a1 (by unfold zPe; omega))
  · have ht : zPd lg.length p mb (zFw fi fa lg i (np i) (zr lg p)) xm = true := by
      cases h : zPd lg.length p mb (zFw fi fa lg i (np i) (zr lg p)) xm with
      | true => rfl
      | false => rw [h] at c1; exact absurd rfl c1
    have e : (zlm cc j 0 xm).find? (zPd lg.length p mb (zFw fi fa lg i (np i) (zr lg p))) = some xm := by
      rw [zlm_0, List.find?_cons_of_pos ht]
    exact hK g1 pt1 pb (some xm) e.symm (a1.mono (fun k hk => Or.inl hk)) (by omega) a3 (hL.fe a1 (by unfold zPe; omega))
theorem cx_choose_l (hok : zOk X) (hV : zPv fi fa lg M P np sz) (h16 : lg.length ≤ 16) {i p bl many need xm : Nat} {mb : Bool} (ih : zChS X x ad fo eo mo c fi fa lg M P np sz bl i p mb many need) (hd : need + 122 ≤ d + 7) (hm : (zsb lg (zbt xm) lg.length).length + (need + 1) = many) {E : zM} (C : zC X (d + 8) E RX1 cX1_choose 8 (some (.object "java/util/List")) "choose") (hQ : zQ X E K KX) : ∀ (cc j : Nat) (g : zG) (pt : Nat → Nat) (pb : Nat), lg.length = j + cc → xm < 2 ^ j → zGz g + zpT pt + pb + 600 ≤ zz X → zWd X x ad fo eo mo c pt fi fa lg M P np sz g → zLs X g 73 bl ((zsb lg (zbt xm) lg.length).map eo) pb →
    (∀ (g' : zG) (pt' : Nat → Nat) (pb' : Nat) (r : Option Nat), r = (zlm cc j (need + 1) xm).find? (zPd lg.length p mb (zFw fi fa lg i (np i) (zr lg p))) → zFe zPg g g' → zGz g' + zpT pt' + pb' ≤ zGz g + zpT pt + pb → zWd X x ad fo eo mo c pt' fi fa lg M P np sz g' → zLs X g' 73 bl ((zsb lg (zbt (r.getD xm)) lg.length).map eo) pb' → K (some (va_rf (r.map (fun _ => bl)))) g') →
    GW X E 8 g 35 [(0, .ref x), (1, .ref (mo i 0)), (2, .ref (eo (zr lg p))), (3, .int (zbI (!mb))), (4, .ref bl), (6, .int (nI many)), (7, .int (nI j))] []
  | 0, j, g, pt, pb, hlen, hx, hz, hW, hL, hK => by
    obtain ⟨w1, -, -, w4, -⟩ := id hW.1
    exact bX1_choose_35 (d := d + 7) C hQ g _ _ _ _ _ _ _ ⟨_, _, w1, rfl, w4.1.is (by omega), ls_size hok w4.1 (by omega) ⟨_, rfl, fun _ => hK g pt pb none rfl (zFe.rf _ _) (Nat.le_refl _) hW hL, fun z => absurd (show nI _ ≤ nI j by rw [List.length_map, hlen, Nat.add_zero]; exact Int32.le_refl _) z⟩⟩
  | cc + 1, j, g, pt, pb, hlen, hx, hz, hW, hL, hK => by
    have hM6 := hV.2.2.1.1
    have hj : j < lg.length := by omega
    have hp2 : 2 ^ (j + 1) = 2 ^ j * 2 := Nat.pow_succ 2 j
    have hle := zsb_len lg (zbt xm) lg.length
    obtain ⟨w1, -, -, w4, -⟩ := id hW.1
    have hev := w4.2 _ (zr_mem hj)
    have hzl : zlm (cc + 1) j (need + 1) xm = zlm cc (j + 1) need (xm + 2 ^ j) ++ zlm cc (j + 1) (need + 1) xm := rfl
    have hmore := zsb_more (lg := lg) hx hj
    refine bX1_choose_35 (d := d + 7) C hQ g _ _ _ _ _ _ _ ⟨_, _, w1, rfl, w4.1.is (by omega), ls_size hok w4.1 (by omega) ⟨_, rfl, fun z => absurd z (by rw [List.length_map]; exact nI_ge hj (by omega)), fun _ => ⟨_, _, w1, rfl, w4.1.is (by omega), ls_getm (d := d + 5) hok w4.1 (by omega) hj ⟨_, rfl, _, rfl, ⟨4, _, hev, rfl⟩, hL.is (by omega), ?_⟩⟩⟩⟩
    rw [← nI_succ]
    refine ls_add (d := d + 1) hok hL (by omega) (zob_e hev) (fun u hu => ?_) (by rw [List.length_map]; omega) (by omega) (fun g1 p1 a1 a2 a3 => ⟨_, rfl, Or.inr rfl, ?_⟩)
    · obtain ⟨v, hv, rfl⟩ := List.mem_map.mp hu
      exact zob_e (w4.2 v (zsb_sl.subset hv))
    have f1 := a2.fe (by omega)
    have hW1 : zWd X x ad fo eo mo c pt fi fa lg M P np sz g1 := hW.keep hM6 f1 (fun k h => by omega) (fun k h => by omega) (fun k h => by omega)
    have L1 : zLs X g1 73 bl ((zsb lg (zbt (xm + 2 ^ j)) lg.length).map eo) p1 := by
      rw [hmore, List.map_append]
      exact a1
    refine ⟨⟨1, _, hW1.1.1, rfl⟩, ih cc (j + 1) (xm + 2 ^ j) _ g1 pt p1 _ _ hd (by omega) (by omega) (by rw [hmore, List.length_append, List.length_singleton]; omega) (by omega) hW1 L1 (fun g2 pt2 pb2 r b0 b1 b2 b3 b4 => ⟨_, rfl, fun z => ?_, fun a z => ?_⟩)⟩
    · have hr : r = none := Option.map_eq_none_iff.mp z
      subst hr
      have b4 : zLs X g2 73 bl ((zsb lg (zbt (xm + 2 ^ j)) lg.length).map eo) pb2 := b4
      rw [hmore, List.map_append] at b4
      have e : nI (((zsb lg (zbt xm) lg.length).map eo ++ [zr lg j].map eo).length) - 1 = nI (zsb lg (zbt xm) lg.length).length := by
        rw [List.length_append, List.length_map, List.length_map, List.length_singleton, nI_pred]
      refine ⟨b4.is (by omega), ls_size hok b4 (by omega) ⟨_, rfl, b4.is (by omega), ?_⟩⟩
      rw [e]
      refine ls_remove (d := d + 5) hok b4 (by omega) (by rw [List.length_append, List.length_map, List.length_map, List.length_singleton]; omega) (fun u hu => ?_) (fun g3 c1 c2 => ⟨some _, rfl, ?_⟩)
      · obtain ⟨-, -, -, w42, -⟩ := id b3.1
        rw [← List.map_append] at hu
        obtain ⟨v, hv, rfl⟩ := List.mem_map.mp hu
        rcases List.mem_append.mp hv with q | q
        · exact zob_e (w42.2 v (zsb_sl.subset q))
        · rw [List.mem_singleton.mp q]
          exact zob_e (w42.2 _ (zr_mem hj))
      · have f3 := c2.fe (by omega)
        have z3 : zGz g3 = zGz g2 := c2.2.2
        have e2 : ((zsb lg (zbt xm) lg.length).map eo ++ [zr lg j].map eo).eraseIdx (zsb lg (zbt xm) lg.length).length = (zsb lg (zbt xm) lg.length).map eo := by
          rw [List.eraseIdx_append_of_length_le (by rw [List.length_map]; exact Nat.le_refl _), List.length_map, Nat.sub_self]
          exact List.append_nil _
        rw [e2] at c1
        have f03 : zFe zPg g g3 := ((f1.mono (fun k hk => Or.inr hk)).trans b1).trans (f3.mono (fun k hk => Or.inr hk))
        refine cx_choose_l hok hV h16 ih hd hm C hQ cc (j + 1) g3 pt2 pb2 (by omega) (by omega) (by omega) (b3.keep hM6 f3 (fun k h => by omega) (fun k h => by omega) (fun k h => by omega)) c1 (fun g4 pt4 pb4 r d0 d1 d2 d3 d4 => hK g4 pt4 pb4 r ?_ (f03.trans d1) (by omega) d3 d4)
        rw [hzl, List.find?_append, ← b0, d0]
        rfl
    · obtain ⟨y, hy, hab⟩ := Option.map_eq_some_iff.mp z
      subst hy
      have := hK g2 pt2 pb2 (some y) (by rw [hzl, List.find?_append, ← b0]; rfl) ((f1.mono (fun k hk => Or.inr hk)).trans b1) (by omega) b3 b4
      exact this
theorem cx_choose {many : Nat} (hok : zOk X) (hmany : many ≤ 100) (hV : zPv fi fa lg M P np sz) (hJ : zWj fo mo M P np sz) (h16 : lg.length ≤ 16) {i p bl : Nat} {mb : Bool} (hi : i < M) (hp : p < lg.length) : ∀ need : Nat, zChS X x ad fo eo mo c fi fa lg M P np sz bl i p mb many need
  | 0 => cx_choose_0 hok hV hJ h16 hi hp
  | need + 1 => by
    have ih := cx_choose hok hmany hV hJ h16 hi hp (bl := bl) (mb := mb) need
    intro cc j xm D g pt pb K KX hD hlen hx hm hz hW hL hK
    obtain ⟨d, rfl⟩ : ∃ d, D = d + 8 := ⟨D - 8, by omega⟩
    have hle := zsb_len lg (zbt xm) lg.length
    refine mX1_choose (d := d + 7) hok x _ _ _ bl _ _ (fun E C hQ => ⟨hL.is (by omega), ls_size hok hL (by omega) ⟨_, rfl, fun _ => cx_choose_l (d := d) hok hV h16 ih (by omega) hm C hQ cc j g pt pb hlen hx hz hW hL hK, fun z => ?_⟩⟩)
    rw [List.length_map] at z
    have h2 : (2 : Nat) ^ lg.length ≤ 2 ^ 16 := Nat.pow_le_pow_right (by omega) h16
    have := (nI_eq (by omega) (by omega)).mp z
    omega
theorem cx_setFor_l (hok : zOk X) (hV : zPv fi fa lg M P np sz) (hJ : zWj fo mo M P np sz) (h16 : lg.length ≤ 16) {i p bl : Nat} {mb kf : Bool} (hi : i < M) (hp : p < lg.length) {B : Nat} (hB : B + 600 ≤ zz X) (hd : 130 ≤ d) {E : zM} (C : zC X (d + 1) E RX1 cX1_setFor 9 (some (.object "java/util/List")) "setFor") (hQ : zQ X E K KX) {g0 : zG} {R : Nat}
    (hK : ∀ (g' : zG) (pt' : Nat → Nat) (pb' : Nat), zFe zPg g0 g' → zGz g' + zpT pt' + pb' ≤ B → zWd X x ad fo eo mo c pt' fi fa lg M P np sz g' → zLs X g' 73 bl ((zsb lg (zbt R) lg.length).map eo) pb' → K (some (.ref bl)) g') : ∀ (f s : Nat) (g : zG) (pt : Nat → Nat) (pb : Nat), s + f = 6 → 1 ≤ s → s ≤ 5 → R = zlf (zPd lg.length p mb (zFw fi fa lg i (np i) (zr lg p))) lg.length (if mb = true then 3 else 4) kf f s → zFe zPg g0 g → zGz g + zpT pt + pb ≤ B → zWd X x ad fo eo mo c pt fi fa lg M P np sz g → zLs X g 73 bl ((zsb lg (zbt 0) lg.length).map eo) pb →
    GW X E 9 g 81 [(0, .ref x), (3, .int (zbI (!mb))), (4, .ref (mo i 0)), (5, .ref (eo (zr lg p))), (6, .int (zbI kf)), (7, .ref bl), (8, .int (nI s))] []
  | 0, s, g, pt, pb, h1, h2, h3, hR, hF, hz, hW, hL => by omega
  | f + 1, s, g, pt, pb, h1, h2, h3, hR, hF, hz, hW, hL => by
    have hn0 : zsb lg (zbt 0) lg.length = [] := by
      have := zsb_hi (lg := lg) (s := 0) (j := 0) (by decide) lg.length
      rw [Nat.zero_add] at this
      exact this
    have hzf : zlf (zPd lg.length p mb (zFw fi fa lg i (np i) (zr lg p))) lg.length (if mb = true then 3 else 4) kf (f + 1) s = if (if mb = true then 3 else 4) < s ∨ kf = false then 0 else match (zlm lg.length 0 s 0).find? (zPd lg.length p mb (zFw fi fa lg i (np i) (zr lg p))) with
      | some y => y
      | none => zlf (zPd lg.length p mb (zFw fi fa lg i (np i) (zr lg p))) lg.length (if mb = true then 3 else 4) kf f (s + 1) := rfl
    rw [hzf] at hR
    have stop : ((if mb = true then 3 else 4) < s ∨ kf = false) → K (some (.ref bl)) g := fun z => by
      rw [if_pos z] at hR
      subst hR
      exact hK g pt pb hF hz hW hL
    have go : ¬ ((if mb = true then 3 else 4) < s ∨ kf = false) → zIs g 1 x ∧ zCal X d yX1_choose wX1_choose [.ref x, .ref (mo i 0), .ref (eo (zr lg p)), .int (zbI (!mb)), .ref bl, .int 0, .int (nI s)] g (fun r g_1 => ∃ r_2 : Option Nat, r = some (va_rf r_2) ∧ (r_2 = none → GW X E 9 g_1 81 [(0, .ref x), (3, .int (zbI (!mb))), (4, .ref (mo i 0)), (5, .ref (eo (zr lg p))), (6, .int (zbI kf)), (7, .ref bl), (8, .int (nI s + 1))] []) ∧ (∀ a_3 : Nat, r_2 = some a_3 → K (some (.ref bl)) g_1)) KX := fun z => by
      rw [if_neg z] at hR
      have hs : s ≤ 4 := by
        by_cases q : s = 5
        · exact absurd (Or.inl (by rw [q]; split <;> omega)) z
        · omega
      refine ⟨⟨1, _, hW.1.1, rfl⟩, ?_⟩
      rw [show (0 : Int32) = nI 0 from nI_0.symm]
      refine cx_choose (many := s) hok (by omega) hV hJ h16 hi hp s lg.length 0 0 _ g pt pb _ _ (by omega) (by omega) (by decide) (by rw [hn0]; show 0 + s = s; omega) (by omega) hW hL (fun g1 pt1 pb1 r a0 a1 a2 a3 a4 => ⟨_, rfl, fun y => ?_, fun a y => ?_⟩)
      · have hr : r = none := Option.map_eq_none_iff.mp y
        subst hr
        rw [← a0] at hR
        rw [← nI_succ]
        exact cx_setFor_l hok hV hJ h16 hi hp hB hd C hQ hK f (s + 1) g1 pt1 pb1 (by omega) (by omega) (by omega) hR (hF.trans a1) (by omega) a3 a4
      · obtain ⟨u, hu, hab⟩ := Option.map_eq_some_iff.mp y
        subst hu
        rw [← a0] at hR
        have hR : R = u := hR
        subst hR
        exact hK g1 pt1 pb1 (hF.trans a1) (by omega) a3 a4
    refine bX1_setFor_81 (d := d) C hQ g _ _ _ _ _ _ _ ⟨fun c0 => ?_, fun c0 => ?_⟩
    · have hm : mb = true := by cases mb with
        | true => rfl
        | false => exact absurd c0 (by decide)
      subst hm
      refine ⟨fun z => stop (Or.inl ((nI_ltI (a := 3) (by omega) (by omega)).mp z)), fun z => ⟨fun z2 => stop (Or.inr (zbI_0.mp z2)), fun z2 => go (fun w => ?_)⟩⟩
      rcases w with w | w
      · exact z (nI_lt (a := 3) w (by omega))
      · exact z2 (by rw [w]; rfl)
    · have hm : mb = false := by cases mb with
        | true => exact absurd rfl c0
        | false => rfl
      subst hm
      refine ⟨fun z => stop (Or.inl ((nI_ltI (a := 4) (by omega) (by omega)).mp z)), fun z => ⟨fun z2 => stop (Or.inr (zbI_0.mp z2)), fun z2 => go (fun w => ?_)⟩⟩
      rcases w with w | w
      · exact z (nI_lt (a := 4) w (by omega))
      · exact z2 (by rw [w]; rfl)
/-- the set, in a list of the class's -/
theorem cx_setFor (hok : zOk X) (hV : zPv fi fa lg M P np sz) (hR : zRR X x fi fa lg M P np sz B g) (hB : B + 8000 ≤ zz X) {v u : Int32} {mb : Bool} {D : Nat} (hD : 200 ≤ D)
    (h1 : zxl M lg.length v u = 0 → lg.length ≤ 16 → ∀ i e : Nat, i < M → e < lg.length → v = nI i → u = nI e → ∀ (g' : zG) (eo : Nat → Nat) (bl pb : Nat), zFe zPc g g' → zRR X x fi fa lg M P np sz (B + 5000) g' → zLs X g' 73 bl ((zsb lg (zbt (zle fi fa lg i (np i) (lg.idxOf e) mb)) lg.length).map eo) pb → (∀ w ∈ lg, zGo g' 4 (eo w) = some (zef fa w)) → K (some (.ref bl)) g')
    (hx : ∀ (cd : Int32) (s : String), zxl M lg.length v u = cd → (cd = 1 ∧ s = RJ9) ∨ (cd = 2 ∧ s = RJ13) → KX s (zSz g (zGz g + 7))) : zCal X D yX1_setFor wX1_setFor [.ref x, .int v, .int u, .int (zbI (!mb))] g K KX := by
  obtain ⟨d, rfl⟩ : ∃ d, D = d + 8 := ⟨D - 8, by omega⟩
  obtain ⟨ad, fo, eo, mo, c, pt, hW, hJ, hz⟩ := hR
  have hM6 := hV.2.2.1.1
  have h80 := hV.1.2.1
  have hlv := hV.1.2.2.2.1
  have inn : ∀ {k n : Nat}, k < n → n < 2 ^ 30 → ¬ zIn (nI k) 0 (nI n - 1) = 0 := fun {k n} h1 h2 => by
    obtain ⟨m, rfl⟩ : ∃ m, n = m + 1 := ⟨n - 1, by omega⟩
    unfold zIn
    rw [nI_pred, if_neg (nI_pos (by omega)), if_neg (nI_nlt (by omega) (by omega))]
    decide
  refine mX1_setFor (d := d + 7) hok x v u _ (fun E C hQ => ⟨⟨1, _, hW.1.1, rfl⟩, cx_monitor hok hV hW (by omega) (by omega) (fun i hi e hm => ⟨_, rfl, ⟨1, _, hW.1.1, rfl⟩, cx_its hok hV hW (by omega) (by omega) (fun j hj e2 hev => ?_) (fun z => hx 1 RJ9 (if_pos (Or.inr z)) (Or.inl ⟨rfl, rfl⟩))⟩) (fun z => hx 1 RJ9 (if_pos (Or.inl z)) (Or.inl ⟨rfl, rfl⟩))⟩)
  subst e e2
  have hn : ¬ (zIn (nI i) 0 (nI M - 1) = 0 ∨ zIn (nI j) 0 (nI lg.length - 1) = 0) := fun z => z.elim (inn hi (by omega)) (inn hj (by omega))
  obtain ⟨m1, m2, lk, k1, k2, k3⟩ := hm
  obtain ⟨w1, -, -, w4, -⟩ := id hW.1
  refine ⟨_, rfl, _, _, w1, rfl, w4.1.is (by omega), ls_size hok w4.1 (by omega) ⟨_, rfl, fun c16 => ?_, fun c16 => ?_⟩⟩
  · rw [List.length_map] at c16
    have h16 : 16 < lg.length := (nI_ltI (a := 16) (by omega) (by omega)).mp c16
    exact sp_allow (d := d + 1) hok (fun z => absurd rfl z) (fun _ => ⟨by omega, hx 2 RJ13 (by unfold zxl; rw [if_neg hn, if_pos h16]) (Or.inr ⟨rfl, rfl⟩)⟩)
  · rw [List.length_map] at c16
    have h16 : lg.length ≤ 16 := by
      by_cases q : 16 < lg.length
      · exact absurd (nI_lt (a := 16) q (by omega)) c16
      · omega
    have h1 := h1 (by unfold zxl; rw [if_neg hn, if_neg (by omega)]) h16 i j hi hj rfl rfl
    obtain ⟨p1, p2⟩ := zr_idx (hV.2.1 j hj)
    obtain ⟨j1, j2, q1, q2, q3, q4, q5⟩ := k3 j hj
    refine sp_allow (d := d + 1) hok (fun _ => ⟨rfl, _, _, m1.1, rfl, k2.is (by omega), ls_get (d := d + 5) hok k2 (by omega) (by omega) ?_⟩) (fun z => absurd z (by decide))
    rw [← zr_el (by omega)]
    refine ⟨_, rfl, _, rfl, ⟨6, _, q5, rfl⟩, _, _, q5, rfl, ⟨j1 + 128, by omega, rfl⟩, j1 + 128, by omega, rfl, fun v21 e21 => ?_⟩
    rw [vb_j, ← q3] at e21
    subst e21
    have mk : ∀ kf : Bool, kf = (fa 25 (80 * i + zr lg (lg.idxOf j)) == 0) → ∃ k_24 : Nat, zkc k_24 = 0 ∧ zGz g + 1 + 3 ≤ zz X ∧ ∀ a_22 : Nat, zFr g a_22 → ∀ g_23 : zG, g_23 = zSz (zSo g k_24 a_22 [.int 0, .null, .int 0]) (zGz g + 1 + 3) → zCal X (d + 7) yJ2_init wJ2_init [.ref a_22] g_23 (fun r g_25 => r = none ∧ GW X E 9 g_25 81 [(0, .ref x), (3, .int (zbI (!mb))), (4, .ref (mo i 0)), (5, .ref (eo j)), (6, .int (zbI kf)), (7, .ref a_22), (8, .int 1)] []) KX := by
      intro kf hkf
      refine ⟨73, zkc_0 (by omega), by omega, fun bl hfr g1 e1 => ?_⟩
      have f1 : zFe (fun _ => False) g g1 := by rw [e1]; exact zFe.new hfr _
      have z1 : zGz g1 = zGz g + 4 := by rw [e1]; rfl
      refine sp_linit (d := d + 4) hok (t := 73) (by omega) (q := bl) (by rw [e1, zSz_o, zSo_o, zup_s]) (fun g2 a1 a2 => ⟨rfl, ?_⟩)
      have f2 := a2.fe (by omega)
      have z2 : zGz g2 = zGz g1 := a2.2.2
      have f02 : zFe (fun k => k = 73) g g2 := (f1.mono (fun _ h => h.elim)).trans f2
      have hW2 := hW.keep hM6 f02 (fun k h => by omega) (fun k h => by omega) (fun k h => by omega)
      have hn0 : zsb lg (zbt 0) lg.length = [] := by
        have := zsb_hi (lg := lg) (s := 0) (j := 0) (by decide) lg.length
        rw [Nat.zero_add] at this
        exact this
      have := cx_setFor_l (d := d + 7) (kf := kf) (mb := mb) (bl := bl) (B := zGz g + zpT pt + 2004) (g0 := g2) hok hV hJ h16 hi p1 (by omega) (by omega) C hQ (R := zle fi fa lg i (np i) (lg.idxOf j) mb) (fun g3 pt3 pb3 b1 b2 b3 b4 => h1 g3 eo bl pb3 ((f02.mono (fun k hk => by unfold zPc; omega)).trans (b1.mono (fun k hk => by unfold zPg zPe at hk; unfold zPc; omega))) ⟨ad, fo, eo, mo, c, pt3, b3, hJ, by omega⟩ b4 b3.1.2.2.2.1.2) 5 1 g2 pt 2000 rfl (by omega) (by omega) (by rw [hkf]; exact zle_f h16) (zFe.rf _ _) (by omega) hW2 (by rw [hn0]; exact ⟨0, 0, a1, by unfold zpot; omega⟩)
      rw [p2] at this
      exact this
    refine ⟨fun c1 => mk false ?_, fun c1 => mk true ?_⟩
    · rw [p2]
      exact (beq_eq_false_iff_ne.mpr c1).symm
    · rw [p2]
      exact (beq_iff_eq.mpr c1).symm
end STF
