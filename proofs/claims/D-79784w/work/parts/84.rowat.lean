set_option maxRecDepth 100000
/-- the answer of the part at p, asked -/
def zAtS (X : zX) (i x rw rl pl ra n base : Nat) (rr fo eo : Nat → Nat) (R : List Nat) (xs : List Value) (fi : Nat → Int32) (fa : Nat → Nat → Int32) (p : Nat) : Prop :=
  ∀ (D : Nat) (g : zG) (F : Nat → Nat → Int32) (e : Nat) (K : Option Value → zG → Prop) (KX : String → zG → Prop), 4 * p + 6 ≤ D → zRc X i x rw rl pl ra n base rr fo eo R xs fi fa g F → e < R.length → (∀ (g' : zG) (F' : Nat → Nat → Int32), zRc X i x rw rl pl ra n base rr fo eo R xs fi fa g' F' → zAf i n R.length g F g' F' → K (some (.int (zVv fi fa base R p e))) g') → zCal X D yX9_at wX9_at [.ref rw, .ref (fo p), .int (nI e)] g K KX
section RAT
variable {X : zX} {d : Nat} {g : zG} {K : Option Value → zG → Prop} {KX : String → zG → Prop} {i x rw rl pl ra n base : Nat} {rr fo eo : Nat → Nat} {R : List Nat} {xs : List Value} {fi : Nat → Int32} {fa : Nat → Nat → Int32}
theorem rp_z {w p : Nat} (h : fa 16 (base + p) = nI w) (hw : w < 12) : (fa 16 (base + p)).toNatClampNeg = w := by
  rw [h, nI_clamp (by omega)]
theorem rp_since (hok : zOk X) (hs : zRs n base rr R fi fa) {p e : Nat} (hp : p < n) (he : e < R.length) (h16 : fa 16 (base + p) = nI 6) (sub : ∀ q, q < p → zAtS X i x rw rl pl ra n base rr fo eo R xs fi fa q) {g0 : zG} {F0 : Nat → Nat → Int32} {E : zM} (hd : 4 * p + 3 ≤ d) (C : zC X (d + 1) E RX9 cX9_behind 7 (some .int) "behind") (hQ : zQ X E K KX)
    (hK : ∀ (g' : zG) (F' : Nat → Nat → Int32), zRc X i x rw rl pl ra n base rr fo eo R xs fi fa g' F' → zAf i n R.length g0 F0 g' F' → K (some (.int (zVv fi fa base R p e))) g') : ∀ (c : Nat) (s a : Int32) (g : zG) (F : Nat → Nat → Int32), c ≤ e + 1 → zRc X i x rw rl pl ra n base rr fo eo R xs fi fa g F → zAf i n R.length g0 F0 g F → zsin (fun k => znr (fa 7) R (fa 18 (base + p)) k e) (zVv fi fa base R (zf1 fa base p)) (zVv fi fa base R (p - 1)) c s a = zVv fi fa base R p e →
    GW X E 7 g 25 [(0, .ref rw), (1, .ref (fo p)), (2, .int (nI e)), (3, .int 0), (4, .int s), (5, .int a), (6, .int (nI c + (-1)))] []
  | 0, s, a, g, F, hc, hR, hA, hz => bX9_behind_25 (d := d) C hQ g _ _ _ _ _ _ _ ⟨fun _ => by
      have := hK g F hR hA
      rw [← hz] at this
      exact this, fun z => absurd (by decide) z⟩
  | c + 1, s, a, g, F, hc, hR, hA, hz => by
    have h80 := hs.2.2.1
    obtain ⟨w, w1, w2, w3, w4, w5, w6, w7⟩ := hs.1 p hp
    have hww : w = 6 := (nI_eq (by omega) (by omega)).mp (w2.symm.trans h16)
    subst hww
    obtain ⟨y1, y2, y3⟩ := w7 (by decide)
    have hz1 : zfp1 fa base fo p = some (fo (zf1 fa base p)) := by
      unfold zfp1
      rw [rp_z h16 (by omega)]
      rfl
    have hz2 : zfp2 fa base fo p = some (fo (p - 1)) := by
      unfold zfp2
      rw [rp_z h16 (by omega)]
      rfl
    have hq1 : zf1 fa base p < p := by
      unfold zf1
      omega
    rw [pk_m1]
    refine bX9_behind_25 (d := d) C hQ g _ _ _ _ _ _ _ ⟨fun z => absurd z (nI_pos (by omega)), fun _ => ⟨7, _, _, rfl, hR.1.wf hp, rfl, hR.1.w, rp_isNear' (D := d) (by omega) hok hR.1 hs (j := c) (k := e) (by omega) he (Or.inl ⟨rfl, rfl⟩) (by omega) ⟨_, rfl, zbI_b _, fun z => ?_, fun z => ⟨fun _ => ⟨7, _, _, rfl, hR.1.wf hp, rfl, hR.1.w, ?_⟩, fun z2 => absurd rfl z2⟩⟩⟩⟩
    · have hn : znr (fa 7) R (fa 18 (base + p)) c e = false := zbI_0.mp z
      have := hK g F hR hA
      rw [← hz] at this
      unfold zsin at this
      rw [if_neg (show ¬ (fun k => znr (fa 7) R (fa 18 (base + p)) k e) c = true by show ¬ znr (fa 7) R (fa 18 (base + p)) c e = true; rw [hn]; decide)] at this
      exact this
    · have hn : znr (fa 7) R (fa 18 (base + p)) c e = true := by
        cases hb : znr (fa 7) R (fa 18 (base + p)) c e with
        | true => rfl
        | false =>
          rw [hb] at z
          exact absurd rfl z
      unfold zsin at hz
      rw [if_pos hn] at hz
      rw [hz2]
      refine sub (p - 1) (by omega) _ g F c _ _ (by omega) hR (by omega) (fun g1 F1 hR1 hA1 => ⟨_, rfl, cp_and hok ⟨_, rfl, cp_or hok ⟨_, rfl, fun _ => ⟨7, _, _, rfl, hR1.1.wf hp, rfl, hR1.1.w, ?_⟩, fun z2 => absurd rfl z2⟩⟩⟩)
      rw [hz1]
      refine sub _ hq1 _ g1 F1 c _ _ (by omega) hR1 (by omega) (fun g2 F2 hR2 hA2 => ⟨_, rfl, cp_and hok ⟨_, rfl, ?_⟩⟩)
      refine rp_since hok hs hp he h16 sub (by omega) C hQ hK c _ _ g2 F2 (by omega) hR2 ((hA.trans hA1).trans hA2) ?_
      rw [zAnd_c a (zVv fi fa base R (p - 1) c)]
      exact hz
theorem rp_once (hok : zOk X) (hs : zRs n base rr R fi fa) {p e : Nat} (hp : p < n) (he : e < R.length) (h16 : fa 16 (base + p) = nI 7) (sub : ∀ q, q < p → zAtS X i x rw rl pl ra n base rr fo eo R xs fi fa q) {g0 : zG} {F0 : Nat → Nat → Int32} {E : zM} (hd : 4 * p + 3 ≤ d) (C : zC X (d + 1) E RX9 cX9_behind 7 (some .int) "behind") (hQ : zQ X E K KX)
    (hK : ∀ (g' : zG) (F' : Nat → Nat → Int32), zRc X i x rw rl pl ra n base rr fo eo R xs fi fa g' F' → zAf i n R.length g0 F0 g' F' → K (some (.int (zVv fi fa base R p e))) g') : ∀ (c : Nat) (s : Int32) (g : zG) (F : Nat → Nat → Int32), c ≤ e + 1 → zRc X i x rw rl pl ra n base rr fo eo R xs fi fa g F → zAf i n R.length g0 F0 g F → zonc (fun k => znr (fa 7) R (fa 18 (base + p)) k e) (zVv fi fa base R (p - 1)) c s = zVv fi fa base R p e →
    GW X E 7 g 25 [(0, .ref rw), (1, .ref (fo p)), (2, .int (nI e)), (3, .int 1), (4, .int s), (5, .int 1), (6, .int (nI c + (-1)))] []
  | 0, s, g, F, hc, hR, hA, hz => bX9_behind_25 (d := d) C hQ g _ _ _ _ _ _ _ ⟨fun _ => by
      have := hK g F hR hA
      rw [← hz] at this
      exact this, fun z => absurd (by decide) z⟩
  | c + 1, s, g, F, hc, hR, hA, hz => by
    have h80 := hs.2.2.1
    obtain ⟨w, w1, w2, w3, w4, w5, w6, w7⟩ := hs.1 p hp
    have hww : w = 7 := (nI_eq (by omega) (by omega)).mp (w2.symm.trans h16)
    subst hww
    obtain ⟨y1, y2⟩ := w6 (by decide)
    have hz1 : zfp1 fa base fo p = some (fo (p - 1)) := by
      unfold zfp1
      rw [rp_z h16 (by omega)]
      rfl
    rw [pk_m1]
    refine bX9_behind_25 (d := d) C hQ g _ _ _ _ _ _ _ ⟨fun z => absurd z (nI_pos (by omega)), fun _ => ⟨7, _, _, rfl, hR.1.wf hp, rfl, hR.1.w, rp_isNear' (D := d) (by omega) hok hR.1 hs (j := c) (k := e) (by omega) he (Or.inl ⟨rfl, rfl⟩) (by omega) ⟨_, rfl, zbI_b _, fun z => ?_, fun z => ⟨fun z2 => absurd z2 (by decide), fun _ => ⟨7, _, _, rfl, hR.1.wf hp, rfl, hR.1.w, ?_⟩⟩⟩⟩⟩
    · have hn : znr (fa 7) R (fa 18 (base + p)) c e = false := zbI_0.mp z
      have := hK g F hR hA
      rw [← hz] at this
      unfold zonc at this
      rw [if_neg (show ¬ (fun k => znr (fa 7) R (fa 18 (base + p)) k e) c = true by show ¬ znr (fa 7) R (fa 18 (base + p)) c e = true; rw [hn]; decide)] at this
      exact this
    · have hn : znr (fa 7) R (fa 18 (base + p)) c e = true := by
        cases hb : znr (fa 7) R (fa 18 (base + p)) c e with
        | true => rfl
        | false =>
          rw [hb] at z
          exact absurd rfl z
      unfold zonc at hz
      rw [if_pos hn] at hz
      rw [hz1]
      refine sub (p - 1) (by omega) _ g F c _ _ (by omega) hR (by omega) (fun g1 F1 hR1 hA1 => ⟨_, rfl, cp_and hok ⟨_, rfl, cp_or hok ⟨_, rfl, fun z2 => absurd z2 (by decide), fun _ => ?_⟩⟩⟩)
      refine rp_once hok hs hp he h16 sub (by omega) C hQ hK c _ g1 F1 (by omega) hR1 (hA.trans hA1) ?_
      rw [zAnd_1 (zVv_3 _ _ _ _ _ _)]
      exact hz
theorem rp_counted_l (hok : zOk X) (hs : zRs n base rr R fi fa) {p e : Nat} (hp : p < n) (he : e < R.length) (h16 : fa 16 (base + p) = nI 11) (sub : ∀ q, q < p → zAtS X i x rw rl pl ra n base rr fo eo R xs fi fa q) {g0 : zG} {F0 : Nat → Nat → Int32} {E : zM} (hd : 4 * p + 3 ≤ d) (C : zC X (d + 1) E RX9 cX9_counted 7 (some .int) "counted") (hQ : zQ X E K KX)
    (hK : ∀ (g' : zG) (F' : Nat → Nat → Int32), zRc X i x rw rl pl ra n base rr fo eo R xs fi fa g' F' → zAf i n R.length g0 F0 g' F' → K (some (.int (zVv fi fa base R p e))) g') : ∀ (c : Nat) (s o : Int32) (g : zG) (F : Nat → Nat → Int32), c ≤ e + 1 → zRc X i x rw rl pl ra n base rr fo eo R xs fi fa g F → zAf i n R.length g0 F0 g F → (let u := zmny (fun k => znr (fa 7) R (fa 18 (base + p)) k e) (zVv fi fa base R (p - 1)) c s (s + o); if u.1 < fa 17 (base + p) then if u.2 < fa 17 (base + p) then 0 else 2 else 1) = zVv fi fa base R p e →
    GW X E 7 g 8 [(0, .ref rw), (1, .ref (fo p)), (2, .int (nI e)), (3, .int s), (4, .int o), (5, .int (nI c + (-1)))] []
  | 0, s, o, g, F, hc, hR, hA, hz => by
    have hk := hK g F hR hA
    rw [← hz] at hk
    unfold zmny at hk
    simp only [] at hk
    refine bX9_counted_8 (d := d) C hQ g _ _ _ _ _ _ ⟨fun _ => ⟨7, _, _, rfl, hR.1.wf hp, rfl, fun c1 => ⟨7, _, _, rfl, hR.1.wf hp, rfl, fun c2 => ?_, fun c2 => ?_⟩, fun c1 => ?_⟩, fun z => absurd (by decide) z⟩
    · rw [if_pos c1, if_neg (Int32.not_lt.mpr c2)] at hk
      exact hk
    · rw [if_pos c1, if_pos (Int32.not_le.mp c2)] at hk
      exact hk
    · rw [if_neg c1] at hk
      exact hk
  | c + 1, s, o, g, F, hc, hR, hA, hz => by
    have h80 := hs.2.2.1
    obtain ⟨w, w1, w2, w3, w4, w5, w6, w7⟩ := hs.1 p hp
    have hww : w = 11 := (nI_eq (by omega) (by omega)).mp (w2.symm.trans h16)
    subst hww
    obtain ⟨y1, y2⟩ := w6 (by decide)
    have hz1 : zfp1 fa base fo p = some (fo (p - 1)) := by
      unfold zfp1
      rw [rp_z h16 (by omega)]
      rfl
    rw [pk_m1]
    refine bX9_counted_8 (d := d) C hQ g _ _ _ _ _ _ ⟨fun z => absurd z (nI_pos (by omega)), fun _ => ⟨7, _, _, rfl, hR.1.wf hp, rfl, hR.1.w, rp_isNear' (D := d) (by omega) hok hR.1 hs (j := c) (k := e) (by omega) he (Or.inl ⟨rfl, rfl⟩) (by omega) ⟨_, rfl, zbI_b _, fun z => ?_, fun z => ⟨7, _, _, rfl, hR.1.wf hp, rfl, hR.1.w, ?_⟩⟩⟩⟩
    · have hn : znr (fa 7) R (fa 18 (base + p)) c e = false := zbI_0.mp z
      have hk := hK g F hR hA
      rw [← hz] at hk
      unfold zmny at hk
      rw [if_neg (show ¬ (fun k => znr (fa 7) R (fa 18 (base + p)) k e) c = true by show ¬ znr (fa 7) R (fa 18 (base + p)) c e = true; rw [hn]; decide)] at hk
      simp only [] at hk
      refine ⟨7, _, _, rfl, hR.1.wf hp, rfl, fun c1 => ⟨7, _, _, rfl, hR.1.wf hp, rfl, fun c2 => ?_, fun c2 => ?_⟩, fun c1 => ?_⟩
      · rw [if_pos c1, if_neg (Int32.not_lt.mpr c2)] at hk
        exact hk
      · rw [if_pos c1, if_pos (Int32.not_le.mp c2)] at hk
        exact hk
      · rw [if_neg c1] at hk
        exact hk
    · have hn : znr (fa 7) R (fa 18 (base + p)) c e = true := by
        cases hb : znr (fa 7) R (fa 18 (base + p)) c e with
        | true => rfl
        | false =>
          rw [hb] at z
          exact absurd rfl z
      unfold zmny at hz
      rw [if_pos hn] at hz
      rw [hz1]
      refine sub (p - 1) (by omega) _ g F c _ _ (by omega) hR (by omega) (fun g1 F1 hR1 hA1 => ?_)
      have hv3 := zVv_3 fi fa base R (p - 1) c
      have go : ∀ (a b : Int32), (s + (if zVv fi fa base R (p - 1) c = 1 then 1 else 0) = s + a) → (s + o + (if zVv fi fa base R (p - 1) c = 0 then 0 else 1) = (s + a) + (o + b)) → GW X E 7 g1 8 [(0, .ref rw), (1, .ref (fo p)), (2, .int (nI e)), (3, .int (s + a)), (4, .int (o + b)), (5, .int (nI c + (-1)))] [] := by
        intro a b ea eb
        refine rp_counted_l hok hs hp he h16 sub (by omega) C hQ hK c _ _ g1 F1 (by omega) hR1 (hA.trans hA1) ?_
        rw [ea, eb] at hz
        exact hz
      refine ⟨_, rfl, fun c1 => ⟨fun c2 => ?_, fun c2 => ?_⟩, fun c1 => ⟨fun c2 => ?_, fun c2 => ?_⟩⟩
      · have hv0 : zVv fi fa base R (p - 1) c = 0 := by
          rcases hv3 with h | h | h
          · exact h
          · exact absurd h c1
          · exact absurd h c2
        refine go 0 0 ?_ ?_
        · rw [if_neg c1]
        · rw [if_pos hv0]
          simp
      · refine go 0 1 ?_ ?_
        · rw [if_neg c1]
        · rw [if_neg (by rw [c2]; decide), Int32.add_zero, Int32.add_assoc]
      · refine go 1 0 ?_ ?_
        · rw [if_pos c1]
        · rw [if_neg (by rw [c1]; decide), Int32.add_zero, Int32.add_assoc, Int32.add_comm o 1, ← Int32.add_assoc]
      · rw [c1] at c2
        exact absurd c2 (by decide)
end RAT
