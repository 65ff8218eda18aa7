set_option maxRecDepth 100000
theorem zst_0 {fi : Nat → Int32} {fa : Nat → Nat → Int32} {base : Nat} {R : List Nat} {tab : Nat → Nat → Int32} {p e : Nat} (h : fa 16 (base + p) = nI 0) : zst fi fa base R tab p e = if fa 8 (zr R e) = fa 17 (base + p) then 1 else 0 := by
  unfold zst
  simp only []
  rw [h, if_pos (by decide)]
theorem zst_1 {fi : Nat → Int32} {fa : Nat → Nat → Int32} {base : Nat} {R : List Nat} {tab : Nat → Nat → Int32} {p e : Nat} (h : fa 16 (base + p) = nI 1) : zst fi fa base R tab p e = if zvl (fa 10 (zr R e)) (fa 17 (base + p)) (fa 18 (base + p)) = true then 1 else 0 := by
  unfold zst
  simp only []
  rw [h, if_neg (by decide), if_pos (by decide)]
theorem zst_2 {fi : Nat → Int32} {fa : Nat → Nat → Int32} {base : Nat} {R : List Nat} {tab : Nat → Nat → Int32} {p e : Nat} (h : fa 16 (base + p) = nI 2) : zst fi fa base R tab p e = zNt (tab (p - 1) e) := by
  unfold zst
  simp only []
  rw [h, if_neg (by decide), if_neg (by decide), if_pos (by decide)]
theorem zst_3' {fi : Nat → Int32} {fa : Nat → Nat → Int32} {base : Nat} {R : List Nat} {tab : Nat → Nat → Int32} {p e : Nat} (h : fa 16 (base + p) = nI 3) : zst fi fa base R tab p e = zAnd (tab (zf1 fa base p) e) (tab (p - 1) e) := by
  unfold zst
  simp only []
  rw [h, if_neg (by decide), if_neg (by decide), if_neg (by decide), if_pos (by decide)]
theorem zst_4 {fi : Nat → Int32} {fa : Nat → Nat → Int32} {base : Nat} {R : List Nat} {tab : Nat → Nat → Int32} {p e : Nat} (h : fa 16 (base + p) = nI 4) : zst fi fa base R tab p e = zOr (tab (zf1 fa base p) e) (tab (p - 1) e) := by
  unfold zst
  simp only []
  rw [h, if_neg (by decide), if_neg (by decide), if_neg (by decide), if_neg (by decide), if_pos (by decide)]
theorem zst_5 {fi : Nat → Int32} {fa : Nat → Nat → Int32} {base : Nat} {R : List Nat} {tab : Nat → Nat → Int32} {p e : Nat} (h : fa 16 (base + p) = nI 5) : zst fi fa base R tab p e = if e = 0 then 0 else tab (p - 1) (e - 1) := by
  unfold zst
  simp only []
  rw [h, if_neg (by decide), if_neg (by decide), if_neg (by decide), if_neg (by decide), if_neg (by decide), if_pos (by decide)]
theorem zst_6 {fi : Nat → Int32} {fa : Nat → Nat → Int32} {base : Nat} {R : List Nat} {tab : Nat → Nat → Int32} {p e : Nat} (h : fa 16 (base + p) = nI 6) : zst fi fa base R tab p e = zsin (fun k => znr (fa 7) R (fa 18 (base + p)) k e) (tab (zf1 fa base p)) (tab (p - 1)) (e + 1) 0 1 := by
  unfold zst
  simp only []
  rw [h, if_neg (by decide), if_neg (by decide), if_neg (by decide), if_neg (by decide), if_neg (by decide), if_neg (by decide), if_pos (by decide)]
theorem zst_7 {fi : Nat → Int32} {fa : Nat → Nat → Int32} {base : Nat} {R : List Nat} {tab : Nat → Nat → Int32} {p e : Nat} (h : fa 16 (base + p) = nI 7) : zst fi fa base R tab p e = zonc (fun k => znr (fa 7) R (fa 18 (base + p)) k e) (tab (p - 1)) (e + 1) 0 := by
  unfold zst
  simp only []
  rw [h, if_neg (by decide), if_neg (by decide), if_neg (by decide), if_neg (by decide), if_neg (by decide), if_neg (by decide), if_neg (by decide), if_pos (by decide)]
theorem zst_8 {fi : Nat → Int32} {fa : Nat → Nat → Int32} {base : Nat} {R : List Nat} {tab : Nat → Nat → Int32} {p e : Nat} (h : fa 16 (base + p) = nI 8) : zst fi fa base R tab p e = if e + 1 < R.length then tab (p - 1) (e + 1) else if fi 2 = 0 then 2 else 0 := by
  unfold zst
  simp only []
  rw [h, if_neg (by decide), if_neg (by decide), if_neg (by decide), if_neg (by decide), if_neg (by decide), if_neg (by decide), if_neg (by decide), if_neg (by decide), if_pos (by decide)]
theorem zst_9 {fi : Nat → Int32} {fa : Nat → Nat → Int32} {base : Nat} {R : List Nat} {tab : Nat → Nat → Int32} {p e : Nat} (h : fa 16 (base + p) = nI 9) : zst fi fa base R tab p e = let u := zunt (fun k => znr (fa 7) R (fa 18 (base + p)) e k) (tab (zf1 fa base p)) (tab (p - 1)) (R.length - e) e 0 1
    if zop (fi 2) (fi 5) (fa 7) R (fa 18 (base + p)) e = true then zOr u.1 (zAnd 2 u.2) else u.1 := by
  unfold zst
  simp only []
  rw [h, if_neg (by decide), if_neg (by decide), if_neg (by decide), if_neg (by decide), if_neg (by decide), if_neg (by decide), if_neg (by decide), if_neg (by decide), if_neg (by decide), if_pos (by decide)]
theorem zst_10 {fi : Nat → Int32} {fa : Nat → Nat → Int32} {base : Nat} {R : List Nat} {tab : Nat → Nat → Int32} {p e : Nat} (h : fa 16 (base + p) = nI 10) : zst fi fa base R tab p e = zsoo (fun k => znr (fa 7) R (fa 18 (base + p)) e k) (tab (p - 1)) (R.length - e) e (if zop (fi 2) (fi 5) (fa 7) R (fa 18 (base + p)) e = true then 2 else 0) := by
  unfold zst
  simp only []
  rw [h, if_neg (by decide), if_neg (by decide), if_neg (by decide), if_neg (by decide), if_neg (by decide), if_neg (by decide), if_neg (by decide), if_neg (by decide), if_neg (by decide), if_neg (by decide), if_pos (by decide)]
theorem zst_11 {fi : Nat → Int32} {fa : Nat → Nat → Int32} {base : Nat} {R : List Nat} {tab : Nat → Nat → Int32} {p e : Nat} (h : fa 16 (base + p) = nI 11) : zst fi fa base R tab p e = let u := zmny (fun k => znr (fa 7) R (fa 18 (base + p)) k e) (tab (p - 1)) (e + 1) 0 0
    if u.1 < fa 17 (base + p) then if u.2 < fa 17 (base + p) then 0 else 2 else 1 := by
  unfold zst
  simp only []
  rw [h, if_neg (by decide), if_neg (by decide), if_neg (by decide), if_neg (by decide), if_neg (by decide), if_neg (by decide), if_neg (by decide), if_neg (by decide), if_neg (by decide), if_neg (by decide), if_neg (by decide)]
/-- how the class holds a value against a number -/
theorem zvl_s {v how m : Int32} (hv : -1000 ≤ v.toInt ∧ v.toInt ≤ 1000) (hm : -1000 ≤ m.toInt ∧ m.toInt ≤ 1000) (hh : how = 0 ∨ how = 1 ∨ how = 2) : (1 + (if v - m < 0 then (-1 : Int32) else if v - m = 0 then 0 else 1) = how) ↔ zvl v how m = true := by
  have hd : (v - m).toInt = v.toInt - m.toInt := by
    rw [Int32.toInt_sub, Int.bmod_eq_of_le (by omega) (by omega)]
  have h0 : (0 : Int32).toInt = 0 := rfl
  have c1 : (v - m < 0) ↔ v < m := by
    rw [Int32.lt_iff_toInt_lt, Int32.lt_iff_toInt_lt, hd, h0]
    omega
  have c2 : (v - m = 0) ↔ v = m := by
    rw [← Int32.toInt_inj, ← Int32.toInt_inj, hd, h0]
    omega
  have c3 : (m < v) ↔ ¬ v < m ∧ ¬ v = m := by
    rw [Int32.lt_iff_toInt_lt, Int32.lt_iff_toInt_lt, ← Int32.toInt_inj]
    omega
  unfold zvl
  by_cases a : v < m
  · rw [if_pos (c1.mpr a)]
    have a3 : ¬ m < v := fun z => (c3.mp z).1 a
    have a2 : ¬ v = m := fun z => by
      rw [z] at a
      exact Int32.lt_irrefl a
    rcases hh with rfl | rfl | rfl
    · rw [if_pos rfl, decide_eq_true a]
      decide
    · rw [if_neg (by decide), if_pos rfl, beq_eq_false_iff_ne.mpr a2]
      decide
    · rw [if_neg (by decide), if_neg (by decide), decide_eq_false a3]
      decide
  · rw [if_neg (fun z => a (c1.mp z))]
    by_cases b : v = m
    · rw [if_pos (c2.mpr b)]
      have a3 : ¬ m < v := fun z => (c3.mp z).2 b
      rcases hh with rfl | rfl | rfl
      · rw [if_pos rfl, decide_eq_false a]
        decide
      · rw [if_neg (by decide), if_pos rfl, beq_iff_eq.mpr b]
        decide
      · rw [if_neg (by decide), if_neg (by decide), decide_eq_false a3]
        decide
    · rw [if_neg (fun z => b (c2.mp z))]
      have a3 : m < v := c3.mpr ⟨a, b⟩
      rcases hh with rfl | rfl | rfl
      · rw [if_pos rfl, decide_eq_false a]
        decide
      · rw [if_neg (by decide), if_pos rfl, beq_eq_false_iff_ne.mpr b]
        decide
      · rw [if_neg (by decide), if_neg (by decide), decide_eq_true a3]
        decide
section RAN
variable {X : zX} {d : Nat} {g : zG} {K : Option Value → zG → Prop} {KX : String → zG → Prop} {i x rw rl pl ra n base : Nat} {rr fo eo : Nat → Nat} {R : List Nat} {xs : List Value} {fi : Nat → Int32} {fa : Nat → Nat → Int32}
theorem rp_behind (hok : zOk X) (hs : zRs n base rr R fi fa) {p e w D : Nat} (hp : p < n) (he : e < R.length) (hw : w = 6 ∨ w = 7) (h16 : fa 16 (base + p) = nI w) (sub : ∀ q, q < p → zAtS X i x rw rl pl ra n base rr fo eo R xs fi fa q) (hD : 4 * p + 4 ≤ D) {F : Nat → Nat → Int32} (hR : zRc X i x rw rl pl ra n base rr fo eo R xs fi fa g F)
    (hK : ∀ (g' : zG) (F' : Nat → Nat → Int32), zRc X i x rw rl pl ra n base rr fo eo R xs fi fa g' F' → zAf i n R.length g F g' F' → K (some (.int (zVv fi fa base R p e))) g') : zCal X D yX9_behind wX9_behind [.ref rw, .ref (fo p), .int (nI e)] g K KX := by
  obtain ⟨d, rfl⟩ : ∃ d, D = d + 1 := ⟨D - 1, by omega⟩
  have hn : ∀ (z : Int32) (E : zM), GW X E 7 g 25 [(0, .ref rw), (1, .ref (fo p)), (2, .int (nI e)), (3, .int z), (4, .int 0), (5, .int 1), (6, .int (nI (e + 1) + (-1)))] [] → GW X E 7 g 25 [(0, .ref rw), (1, .ref (fo p)), (2, .int (nI e)), (3, .int z), (4, .int 0), (5, .int 1), (6, .int (nI e))] [] := by
    intro z E k
    rw [pk_m1] at k
    exact k
  refine mX9_behind (d := d) hok rw (fo p) _ (fun E C hQ => ⟨7, _, _, rfl, hR.1.wf hp, rfl, ?_⟩)
  rw [rp_z h16 (by omega)]
  refine ⟨fun c => ?_, fun c => ?_⟩
  · have hw6 : w = 6 := hw.resolve_right (fun z => c (by rw [z]))
    subst hw6
    exact hn 0 E (rp_since (d := d) (g0 := g) (F0 := F) hok hs hp he h16 sub (by omega) C hQ hK (e + 1) 0 1 g F (Nat.le_refl _) hR (zAf.rf _ _ _ _ _) (by rw [zVv_fix hs.1 hp he, zst_6 h16]))
  · have hw7 : w = 7 := zE_inj hok (by omega) (by omega) c
    subst hw7
    exact hn 1 E (rp_once (d := d) (g0 := g) (F0 := F) hok hs hp he h16 sub (by omega) C hQ hK (e + 1) 0 g F (Nat.le_refl _) hR (zAf.rf _ _ _ _ _) (by rw [zVv_fix hs.1 hp he, zst_7 h16]))
theorem rp_counted (hok : zOk X) (hs : zRs n base rr R fi fa) {p e D : Nat} (hp : p < n) (he : e < R.length) (h16 : fa 16 (base + p) = nI 11) (sub : ∀ q, q < p → zAtS X i x rw rl pl ra n base rr fo eo R xs fi fa q) (hD : 4 * p + 4 ≤ D) {F : Nat → Nat → Int32} (hR : zRc X i x rw rl pl ra n base rr fo eo R xs fi fa g F)
    (hK : ∀ (g' : zG) (F' : Nat → Nat → Int32), zRc X i x rw rl pl ra n base rr fo eo R xs fi fa g' F' → zAf i n R.length g F g' F' → K (some (.int (zVv fi fa base R p e))) g') : zCal X D yX9_counted wX9_counted [.ref rw, .ref (fo p), .int (nI e)] g K KX := by
  obtain ⟨d, rfl⟩ : ∃ d, D = d + 1 := ⟨D - 1, by omega⟩
  refine mX9_counted (d := d) hok rw (fo p) _ (fun E C hQ => ?_)
  have := rp_counted_l (d := d) (g0 := g) (F0 := F) hok hs hp he h16 sub (by omega) C hQ hK (e + 1) 0 0 g F (Nat.le_refl _) hR (zAf.rf _ _ _ _ _) (by rw [zVv_fix hs.1 hp he, zst_11 h16]; rfl)
  rw [pk_m1] at this
  exact this
theorem rp_ahead (hok : zOk X) (hs : zRs n base rr R fi fa) {p e w D : Nat} (hp : p < n) (he : e < R.length) (hw : w = 9 ∨ w = 10) (h16 : fa 16 (base + p) = nI w) (sub : ∀ q, q < p → zAtS X i x rw rl pl ra n base rr fo eo R xs fi fa q) (hD : 4 * p + 4 ≤ D) {F : Nat → Nat → Int32} (hR : zRc X i x rw rl pl ra n base rr fo eo R xs fi fa g F)
    (hK : ∀ (g' : zG) (F' : Nat → Nat → Int32), zRc X i x rw rl pl ra n base rr fo eo R xs fi fa g' F' → zAf i n R.length g F g' F' → K (some (.int (zVv fi fa base R p e))) g') : zCal X D yX9_ahead wX9_ahead [.ref rw, .ref (fo p), .int (nI e)] g K KX := by
  obtain ⟨d, rfl⟩ : ∃ d, D = d + 1 := ⟨D - 1, by omega⟩
  refine mX9_ahead (d := d) hok rw (fo p) _ (fun E C hQ => ⟨7, _, _, rfl, hR.1.wf hp, rfl, ?_⟩)
  rw [rp_z h16 (by omega)]
  refine ⟨fun c => ?_, fun c => ?_⟩
  · have hw6 : w = 9 := hw.resolve_right (fun z => c (by rw [z]))
    subst hw6
    exact rp_until (d := d) (g0 := g) (F0 := F) hok hs hp he h16 sub (by omega) C hQ hK (R.length - e) e 0 1 g F (by omega) (Nat.le_refl _) hR (zAf.rf _ _ _ _ _) (by rw [zVv_fix hs.1 hp he, zst_9 h16])
  · have hw7 : w = 10 := zE_inj hok (by omega) (by omega) c
    subst hw7
    refine rp_soon (d := d) (g0 := g) (F0 := F) hok hs hp he h16 sub (by omega) C hQ hK (R.length - e) e 0 g F (by omega) (Nat.le_refl _) hR (zAf.rf _ _ _ _ _) ?_
    rw [zVv_fix hs.1 hp he, zst_10 h16]
    by_cases c2 : zop (fi 2) (fi 5) (fa 7) R (fa 18 (base + p)) e = true
    · rw [if_pos c2, if_pos c2, ← zsoo_o (fun k => zVv_3 _ _ _ _ _ _) _ _ _ z3_0]
      rfl
    · rw [if_neg c2, if_neg c2]
theorem rp_answer (hok : zOk X) (hs : zRs n base rr R fi fa) {p e D : Nat} (hp : p < n) (he : e < R.length) (sub : ∀ q, q < p → zAtS X i x rw rl pl ra n base rr fo eo R xs fi fa q) (hD : 4 * p + 5 ≤ D) {F : Nat → Nat → Int32} (hR : zRc X i x rw rl pl ra n base rr fo eo R xs fi fa g F)
    (hK : ∀ (g' : zG) (F' : Nat → Nat → Int32), zRc X i x rw rl pl ra n base rr fo eo R xs fi fa g' F' → zAf i n R.length g F g' F' → K (some (.int (zVv fi fa base R p e))) g') : zCal X D yX9_answer wX9_answer [.ref rw, .ref (fo p), .int (nI e)] g K KX := by
  obtain ⟨d, rfl⟩ : ∃ d, D = d + 3 := ⟨D - 3, by omega⟩
  have h80 := hs.2.2.1
  obtain ⟨w, w1, w2, w3, w4, w5, w6, w7⟩ := hs.1 p hp
  have e9 : ∀ j : Nat, j < 12 → nI w = nI j → w = j := fun j hj h => (nI_eq (by omega) (by omega)).mp h
  have hk := hK g F hR (zAf.rf _ _ _ _ _)
  have hfix := zVv_fix (fi := fi) hs.1 hp he
  have f1 : zay w = 1 → zfp1 fa base fo p = some (fo (p - 1)) := by
    intro h
    unfold zfp1
    rw [rp_z w2 w1, if_neg (by omega), if_pos h]
  have f2 : zay w = 2 → zfp1 fa base fo p = some (fo (zf1 fa base p)) ∧ zfp2 fa base fo p = some (fo (p - 1)) ∧ zf1 fa base p < p := by
    intro h
    have := (w7 h).1
    unfold zfp1 zfp2
    rw [rp_z w2 w1, if_neg (by omega), if_neg (by omega), if_pos h]
    refine ⟨rfl, rfl, ?_⟩
    unfold zf1
    omega
  have hev := hR.1.ev he
  refine mX9_answer (d := d + 2) hok rw (fo p) _ ⟨7, _, _, rfl, hR.1.wf hp, rfl, w, w1, by rw [rp_z w2 w1], fun v hv => ?_⟩
  subst hv
  refine ⟨fun c => ?_, fun c => ?_, fun c => ?_, fun c => ?_, fun c => ?_, fun c => ?_, fun c => ?_, fun c => ?_, fun c => ?_, fun c => ?_, fun c => ?_, fun c => ?_, fun c => ?_⟩
  · have hj := e9 0 (by omega) c
    subst hj
    rw [hfix, zst_0 w2] at hk
    refine ⟨_, _, hR.1.1, rfl, hR.1.l, rp_get hok hR.1 he ⟨_, rfl, _, rfl, ⟨4, _, hev, rfl⟩, _, _, hev, rfl, 7, _, _, rfl, hR.1.wf hp, rfl, fun z => ?_, fun z => ?_⟩⟩
    · rw [if_neg z] at hk
      exact hk
    · rw [if_pos z] at hk
      exact hk
  · have hj := e9 1 (by omega) c
    subst hj
    rw [hfix, zst_1 w2] at hk
    obtain ⟨b1, b2⟩ := hs.2.2.2.2.2.2.2.1 p hp w2
    have b3 := hs.2.2.2.2.2.2.1 _ (zr_mem he)
    refine ⟨_, _, hR.1.1, rfl, hR.1.l, rp_get hok hR.1 he ⟨_, rfl, _, rfl, ⟨4, _, hev, rfl⟩, _, _, hev, rfl, 7, _, _, rfl, hR.1.wf hp, rfl, mJ21_signum hok _ ⟨_, rfl, 7, _, _, rfl, hR.1.wf hp, rfl, ?_⟩⟩⟩
    have hd : (fa 10 (zr R e) - fa 18 (base + p)).toInt = (fa 10 (zr R e)).toInt - (fa 18 (base + p)).toInt := by
      rw [Int32.toInt_sub, Int.bmod_eq_of_le (by omega) (by omega)]
    rw [zsg_n _ (by omega) (by omega), zvl_s b3 b2 b1]
    refine ⟨fun z => ?_, fun z => ?_⟩
    · rw [if_neg z] at hk
      exact hk
    · rw [if_pos z] at hk
      exact hk
  · have hj := e9 2 (by omega) c
    subst hj
    have := (w6 (by decide)).1
    rw [hfix, zst_2 w2] at hK
    refine ⟨7, _, _, rfl, hR.1.wf hp, rfl, hR.1.w, ?_⟩
    rw [f1 (by decide)]
    exact sub (p - 1) (by omega) _ g F e _ _ (by omega) hR he (fun g1 F1 hR1 hA1 => ⟨_, rfl, cp_negated hok ⟨_, rfl, hK g1 F1 hR1 hA1⟩⟩)
  · have hj := e9 3 (by omega) c
    subst hj
    obtain ⟨y1, y2, y3⟩ := f2 (by decide)
    rw [hfix, zst_3' w2] at hK
    refine ⟨7, _, _, rfl, hR.1.wf hp, rfl, hR.1.w, ?_⟩
    rw [y1]
    refine sub _ y3 _ g F e _ _ (by omega) hR he (fun g1 F1 hR1 hA1 => ⟨_, rfl, 7, _, _, rfl, hR1.1.wf hp, rfl, hR1.1.w, ?_⟩)
    rw [y2]
    exact sub (p - 1) (by omega) _ g1 F1 e _ _ (by omega) hR1 he (fun g2 F2 hR2 hA2 => ⟨_, rfl, cp_and hok ⟨_, rfl, hK g2 F2 hR2 (hA1.trans hA2)⟩⟩)
  · have hj := e9 4 (by omega) c
    subst hj
    obtain ⟨y1, y2, y3⟩ := f2 (by decide)
    rw [hfix, zst_4 w2] at hK
    refine ⟨7, _, _, rfl, hR.1.wf hp, rfl, hR.1.w, ?_⟩
    rw [y1]
    refine sub _ y3 _ g F e _ _ (by omega) hR he (fun g1 F1 hR1 hA1 => ⟨_, rfl, 7, _, _, rfl, hR1.1.wf hp, rfl, hR1.1.w, ?_⟩)
    rw [y2]
    exact sub (p - 1) (by omega) _ g1 F1 e _ _ (by omega) hR1 he (fun g2 F2 hR2 hA2 => ⟨_, rfl, cp_or hok ⟨_, rfl, hK g2 F2 hR2 (hA1.trans hA2)⟩⟩)
  · have hj := e9 5 (by omega) c
    subst hj
    have := (w6 (by decide)).1
    rw [hfix, zst_5 w2] at hK hk
    refine ⟨fun z => ⟨7, _, _, rfl, hR.1.wf hp, rfl, hR.1.w, ?_⟩, fun z => ?_⟩
    · have he0 : ¬ e = 0 := fun q => z (by rw [q]; rfl)
      rw [if_neg he0] at hK
      obtain ⟨e', rfl⟩ : ∃ e', e = e' + 1 := ⟨e - 1, by omega⟩
      rw [f1 (by decide), nI_pred]
      exact sub (p - 1) (by omega) _ g F e' _ _ (by omega) hR (by omega) (fun g1 F1 hR1 hA1 => ⟨_, rfl, hK g1 F1 hR1 hA1⟩)
    · have he0 : e = 0 := (nI_eq (b := 0) (by omega) (by omega)).mp z
      rw [if_pos he0] at hk
      exact hk
  · have hj := e9 6 (by omega) c
    subst hj
    exact ⟨hR.1.w, rp_behind hok hs hp he (Or.inl rfl) w2 sub (by omega) hR (fun g1 F1 hR1 hA1 => ⟨_, rfl, hK g1 F1 hR1 hA1⟩)⟩
  · have hj := e9 7 (by omega) c
    subst hj
    exact ⟨hR.1.w, rp_behind hok hs hp he (Or.inr rfl) w2 sub (by omega) hR (fun g1 F1 hR1 hA1 => ⟨_, rfl, hK g1 F1 hR1 hA1⟩)⟩
  · have hj := e9 8 (by omega) c
    subst hj
    have := (w6 (by decide)).1
    rw [hfix, zst_8 w2] at hK hk
    obtain ⟨h7, h8, o, h9, h10⟩ := hR.1.2.2.2.2.2.2
    refine ⟨_, _, hR.1.1, rfl, hR.1.l, rp_size hok hR.1 ⟨_, rfl, fun z => ⟨_, _, hR.1.1, rfl, _, _, h7, h9, fun z2 => ?_, fun z2 => ?_⟩, fun z => ⟨7, _, _, rfl, hR.1.wf hp, rfl, hR.1.w, ?_⟩⟩⟩
    · rw [← nI_succ] at z
      have y := (nI_leI (by omega) (by omega)).mp z
      rw [if_neg (by omega), if_neg (h10.mp z2)] at hk
      exact hk
    · rw [← nI_succ] at z
      have y := (nI_leI (by omega) (by omega)).mp z
      rw [if_neg (by omega), if_pos (Decidable.byContradiction (fun q => z2 (h10.mpr q)))] at hk
      exact hk
    · rw [← nI_succ] at z
      have y := mt (nI_leI (by omega) (by omega)).mpr z
      rw [if_pos (by omega)] at hK
      rw [f1 (by decide), ← nI_succ]
      exact sub (p - 1) (by omega) _ g F (e + 1) _ _ (by omega) hR (by omega) (fun g1 F1 hR1 hA1 => ⟨_, rfl, hK g1 F1 hR1 hA1⟩)
  · have hj := e9 9 (by omega) c
    subst hj
    exact ⟨hR.1.w, rp_ahead hok hs hp he (Or.inl rfl) w2 sub (by omega) hR (fun g1 F1 hR1 hA1 => ⟨_, rfl, hK g1 F1 hR1 hA1⟩)⟩
  · have hj := e9 10 (by omega) c
    subst hj
    exact ⟨hR.1.w, rp_ahead hok hs hp he (Or.inr rfl) w2 sub (by omega) hR (fun g1 F1 hR1 hA1 => ⟨_, rfl, hK g1 F1 hR1 hA1⟩)⟩
  · have hj := e9 11 (by omega) c
    subst hj
    exact ⟨hR.1.w, rp_counted hok hs hp he w2 sub (by omega) hR (fun g1 F1 hR1 hA1 => ⟨_, rfl, hK g1 F1 hR1 hA1⟩)⟩
  · rw [nI_toInt (by omega)] at c
    omega
/-- a cell is written -/
theorem zRc.cell (hi : i < 6) (hs : zRs n base rr R fi fa) {F : Nat → Nat → Int32} (hR : zRc X i x rw rl pl ra n base rr fo eo R xs fi fa g F) {p e : Nat} (hp : p < n) (he : e < R.length) {g2 : zG} (e2 : g2 = zSi g (52 + i) (rr p) 80 (upd (F p) e (zVv fi fa base R p e))) : zRc X i x rw rl pl ra n base rr fo eo R xs fi fa g2 (va_up F p (upd (F p) e (zVv fi fa base R p e))) ∧ zAf i n R.length g F g2 (va_up F p (upd (F p) e (zVv fi fa base R p e))) := by
  have hE : zEq i g g2 := by
    subst e2
    refine ⟨rfl, rfl, rfl, rfl, fun t ht => ?_⟩
    funext b
    rw [zSi_i, zup_k _ _ _ _ ht]
  refine ⟨⟨hR.1.eq hE, fun q hq => ?_, fun q hq k hk => ?_⟩, hE, fun q hq k hk h => ?_⟩
  · subst e2
    by_cases c : q = p
    · subst c
      rw [zSi_i, zup_s, va_up_self]
    · rw [zSi_i, zup_a _ _ _ _ (fun z => c (hs.2.2.2.2.2.2.2.2 q p hq hp z)), va_up_ne _ _ c]
      exact hR.2.1 q hq
  · by_cases c : q = p
    · subst c
      rw [va_up_self]
      by_cases ck : k = e
      · subst ck
        rw [pk_us]
        exact Or.inr rfl
      · rw [pk_un ck]
        exact hR.2.2 q hq k hk
    · rw [va_up_ne _ _ c]
      exact hR.2.2 q hq k hk
  · by_cases c : q = p
    · subst c
      rw [va_up_self]
      by_cases ck : k = e
      · subst ck
        rw [pk_us]
        exact z3_m1 (zVv_3 _ _ _ _ _ _)
      · rw [pk_un ck]
        exact h
    · rw [va_up_ne _ _ c]
      exact h
theorem rp_at (hok : zOk X) (hi : i < 6) (hs : zRs n base rr R fi fa) : ∀ (m p : Nat), p < m → p < n → zAtS X i x rw rl pl ra n base rr fo eo R xs fi fa p
  | 0, p, hm, hp => absurd hm (Nat.not_lt_zero p)
  | m + 1, p, hm, hp => by
    intro D g F e K KX hD hR he hK
    obtain ⟨d, rfl⟩ : ∃ d, D = d + 1 := ⟨D - 1, by omega⟩
    have h80 := hs.2.2.1
    obtain ⟨f, hf1, hf2⟩ := hR.1.2.2.2.1
    have h24 := hs.2.1
    have hcl : (nI p).toNatClampNeg = p := nI_clamp (by omega)
    refine mX9_at (d := d) hok rw (fo p) _ ⟨_, _, hR.1.1, rfl, 7, _, _, rfl, hR.1.wf hp, rfl, i, n, f, hf1, vp_in_nI hp (by omega), fun r hr => ⟨rr p, ?_, 52 + i, 80, _, hR.2.1 p hp, by omega, vp_in_nI (by omega) (by omega), fun v hv => ?_⟩⟩
    · rw [hr, hcl, hf2 p hp]
    · rw [nI_clamp (by omega)] at hv
      subst hv
      refine ⟨fun z => ⟨_, _, hR.1.1, rfl, 7, _, _, rfl, hR.1.wf hp, rfl, i, n, f, hf1, vp_in_nI hp (by omega), fun r hr => ⟨rr p, ?_, 52 + i, 80, _, hR.2.1 p hp, by omega, vp_in_nI (by omega) (by omega), fun v hv => ?_⟩⟩, fun z => ⟨_, _, hR.1.1, rfl, 7, _, _, rfl, hR.1.wf hp, rfl, i, n, f, hf1, vp_in_nI hp (by omega), fun r hr => ⟨hR.1.w, rp_answer hok hs hp he (fun q hq => rp_at hok hi hs m q (by omega) (by omega)) (by omega) hR (fun g1 F1 hR1 hA1 => ⟨_, rfl, rr p, ?_, 52 + i, 80, _, hR1.2.1 p hp, by omega, vp_in_nI (by omega) (by omega), fun g2 e2 => ?_⟩)⟩⟩⟩
      · rw [hr, hcl, hf2 p hp]
      · rw [nI_clamp (by omega)] at hv
        have hk := hK g F hR (zAf.rf _ _ _ _ _)
        rw [hv, (hR.2.2 p hp e he).resolve_left z]
        exact hk
      · rw [hr, hcl, hf2 p hp]
      · rw [nI_clamp (by omega)] at e2
        obtain ⟨hR2, hA2⟩ := hR1.cell hi hs hp he e2
        obtain ⟨f2, hf3, hf4⟩ := hR2.1.2.2.2.1
        refine ⟨_, _, hR2.1.1, rfl, 7, _, _, rfl, hR2.1.wf hp, rfl, i, n, f2, hf3, vp_in_nI hp (by omega), fun r hr => ⟨rr p, ?_, 52 + i, 80, _, hR2.2.1 p hp, by omega, vp_in_nI (by omega) (by omega), fun v hv => ?_⟩⟩
        · rw [hr, hcl, hf4 p hp]
        · rw [nI_clamp (by omega), va_up_self, pk_us] at hv
          subst hv
          exact hK g2 _ hR2 (hA1.trans hA2)
end RAN
