set_option maxRecDepth 100000
theorem zall_b : (List.range 2001).all (fun k => ((nI k >>> (31 &&& 31)) ||| (((-(nI k)).toUInt32 >>> ((31 : Int32).toUInt32 &&& Int32.toUInt32 31)).toInt32) == if k = 0 then 0 else 1) && (((-(nI k)) >>> (31 &&& 31)) ||| (((-(-(nI k))).toUInt32 >>> ((31 : Int32).toUInt32 &&& Int32.toUInt32 31)).toInt32) == if k = 0 then 0 else -1)) = true := by decide +kernel
theorem zall_n (k : Nat) (hk : k < 2001) : ((nI k >>> (31 &&& 31)) ||| (((-(nI k)).toUInt32 >>> ((31 : Int32).toUInt32 &&& Int32.toUInt32 31)).toInt32) = if k = 0 then 0 else 1) ∧ (((-(nI k)) >>> (31 &&& 31)) ||| (((-(-(nI k))).toUInt32 >>> ((31 : Int32).toUInt32 &&& Int32.toUInt32 31)).toInt32) = if k = 0 then 0 else -1) := by
  have h := List.all_eq_true.mp zall_b k (List.mem_range.mpr hk)
  rw [Bool.and_eq_true] at h
  exact ⟨beq_iff_eq.mp h.1, beq_iff_eq.mp h.2⟩
section RAH
variable {X : zX} {d : Nat} {g : zG} {K : Option Value → zG → Prop} {KX : String → zG → Prop} {i x rw rl pl ra n base : Nat} {rr fo eo : Nat → Nat} {R : List Nat} {xs : List Value} {fi : Nat → Int32} {fa : Nat → Nat → Int32}
/-- what may come is not far -/
theorem zop_nr (hs : zRs n base rr R fi fa) {b : Int32} {e k : Nat} (he : e < R.length) (hk : k < R.length) (h : zop (fi 2) (fi 5) (fa 7) R b e = true) : znr (fa 7) R b e k = true := by
  obtain ⟨-, -, -, -, h2, ⟨t, ht, e5, h3⟩, -⟩ := hs
  unfold zop at h
  unfold znr
  rw [Bool.and_eq_true] at h
  have h := h.2
  rw [Bool.or_eq_true] at h ⊢
  refine h.imp_right (fun w => ?_)
  rw [Bool.not_eq_true', decide_eq_false_iff_not] at w ⊢
  intro z
  apply w
  have hle := h3 _ (zr_mem hk)
  obtain ⟨a, ha, e1⟩ := h2 _ (zr_mem hk)
  obtain ⟨c, hc, e2⟩ := h2 _ (zr_mem he)
  rw [e1, e2] at z
  rw [e1, e5] at hle
  rw [e5, e2]
  have hle := (nI_leI (by omega) (by omega)).mp hle
  have z := Int32.lt_iff_toInt_lt.mp z
  apply Int32.lt_iff_toInt_lt.mpr
  rw [pk_sub_toInt (by omega) (by omega)] at z ⊢
  omega
theorem rp_until (hok : zOk X) (hs : zRs n base rr R fi fa) {p e : Nat} (hp : p < n) (he : e < R.length) (h16 : fa 16 (base + p) = nI 9) (sub : ∀ q, q < p → zAtS X i x rw rl pl ra n base rr fo eo R xs fi fa q) {g0 : zG} {F0 : Nat → Nat → Int32} {E : zM} (hd : 4 * p + 3 ≤ d) (C : zC X (d + 1) E RX9 cX9_ahead 7 (some .int) "ahead") (hQ : zQ X E K KX)
    (hK : ∀ (g' : zG) (F' : Nat → Nat → Int32), zRc X i x rw rl pl ra n base rr fo eo R xs fi fa g' F' → zAf i n R.length g0 F0 g' F' → K (some (.int (zVv fi fa base R p e))) g') : ∀ (c k : Nat) (s a : Int32) (g : zG) (F : Nat → Nat → Int32), R.length = k + c → e ≤ k → zRc X i x rw rl pl ra n base rr fo eo R xs fi fa g F → zAf i n R.length g0 F0 g F → (let u := zunt (fun k => znr (fa 7) R (fa 18 (base + p)) e k) (zVv fi fa base R (zf1 fa base p)) (zVv fi fa base R (p - 1)) c k s a; if zop (fi 2) (fi 5) (fa 7) R (fa 18 (base + p)) e = true then zOr u.1 (zAnd 2 u.2) else u.1) = zVv fi fa base R p e →
    GW X E 7 g 25 [(0, .ref rw), (1, .ref (fo p)), (2, .int (nI e)), (3, .int 0), (4, .int s), (5, .int a), (6, .int (nI k))] []
  | c, k, s, a, g, F, hc, hek, hR, hA, hz => by
    have h80 := hs.2.2.1
    obtain ⟨w, w1, w2, w3, w4, w5, w6, w7⟩ := hs.1 p hp
    have hww : w = 9 := (nI_eq (by omega) (by omega)).mp (w2.symm.trans h16)
    subst hww
    obtain ⟨y1, y2, y3⟩ := w7 (by decide)
    have hz1 : zfp1 fa base fo p = some (fo (zf1 fa base p)) := by
      unfold zfp1
      rw [rp_z h16 (by omega)]
      rfl
    have hz2 : zfp2 fa base fo p = some (fo (p - 1)) := by
      unfold zfp2
      rw [rp_z h16 (by omega)]
      rfl
    have hq1 : zf1 fa base p < p := by
      unfold zf1
      omega
    -- the end
    have fin : (if zop (fi 2) (fi 5) (fa 7) R (fa 18 (base + p)) e = true then zOr s (zAnd 2 a) else s) = zVv fi fa base R p e → ∃ (k_5 : Nat) (fs_4 : List Value) (v_7 : Int32), zkc k_5 = 7 ∧ zGo g k_5 (fo p) = some fs_4 ∧ fs_4[2]? = some (.int v_7) ∧ zIs g 9 rw ∧ zCal X d yX9_mayCome wX9_mayCome [.ref rw, .int (nI e), .int v_7] g (fun r g_8 => ∃ v_9 : Int32, r = some (.int v_9) ∧ zbo v_9 ∧ (v_9 = 0 → K (some (.int s)) g_8) ∧ (¬ v_9 = 0 → zCal X d yX1_and wX1_and [.int a, .int 2] g_8 (fun r g_10 => ∃ v_11 : Int32, r = some (.int v_11) ∧ zCal X d yX1_or wX1_or [.int s, .int v_11] g_10 (fun r g_12 => ∃ v_13 : Int32, r = some (.int v_13) ∧ K (some (.int v_13)) g_12) KX) KX)) KX := by
      intro hf
      have hk := hK g F hR hA
      rw [← hf] at hk
      refine ⟨7, _, _, rfl, hR.1.wf hp, rfl, hR.1.w, rp_mayCome' (D := d) (by omega) hok hR.1 he ⟨_, rfl, zbI_b _, fun z => ?_, fun z => cp_and hok ⟨_, rfl, cp_or hok ⟨_, rfl, ?_⟩⟩⟩⟩
      · rw [zbI_0.mp z] at hk
        exact hk
      · rw [show zop (fi 2) (fi 5) (fa 7) R (fa 18 (base + p)) e = true by simpa [zbI_0] using z, if_pos rfl, zAnd_c 2 a] at hk
        exact hk
    cases c with
    | zero =>
      refine bX9_ahead_25 (d := d) C hQ g _ _ _ _ _ _ _ ⟨_, _, hR.1.1, rfl, hR.1.l, rp_size hok hR.1 ⟨_, rfl, fun _ => fin hz, fun z => absurd (nI_le (by omega) (by omega)) z⟩⟩
    | succ c =>
      refine bX9_ahead_25 (d := d) C hQ g _ _ _ _ _ _ _ ⟨_, _, hR.1.1, rfl, hR.1.l, rp_size hok hR.1 ⟨_, rfl, fun z => absurd z (nI_ge (by omega) (by omega)), fun _ => ⟨7, _, _, rfl, hR.1.wf hp, rfl, hR.1.w, rp_isNear' (D := d) (by omega) hok hR.1 hs (j := e) (k := k) he (by omega) (Or.inr ⟨rfl, rfl⟩) hek ⟨_, rfl, zbI_b _, fun z => fin ?_, fun z => ⟨fun _ => ⟨7, _, _, rfl, hR.1.wf hp, rfl, hR.1.w, ?_⟩, fun z2 => absurd rfl z2⟩⟩⟩⟩⟩
      · have hn : znr (fa 7) R (fa 18 (base + p)) e k = false := zbI_0.mp z
        have hop : zop (fi 2) (fi 5) (fa 7) R (fa 18 (base + p)) e = false := by
          cases hb : zop (fi 2) (fi 5) (fa 7) R (fa 18 (base + p)) e with
          | false => rfl
          | true =>
            have := zop_nr hs he (k := k) (by omega) hb
            rw [hn] at this
            cases this
        simp only [] at hz
        rw [zunt_far (c + 1) k s a (fun j h1 h2 => znr_m hs.2.2.2.1 hs.2.2.2.2.1 he h1 (by omega) hn), hop, if_neg (by decide)] at hz
        rw [hop, if_neg (by decide)]
        exact hz
      · have hn : znr (fa 7) R (fa 18 (base + p)) e k = true := by
          cases hb : znr (fa 7) R (fa 18 (base + p)) e k with
          | true => rfl
          | false =>
            rw [hb] at z
            exact absurd rfl z
        unfold zunt at hz
        rw [if_pos hn] at hz
        rw [hz2]
        refine sub (p - 1) (by omega) _ g F k _ _ (by omega) hR (by omega) (fun g1 F1 hR1 hA1 => ⟨_, rfl, cp_and hok ⟨_, rfl, cp_or hok ⟨_, rfl, fun _ => ⟨7, _, _, rfl, hR1.1.wf hp, rfl, hR1.1.w, ?_⟩, fun z2 => absurd rfl z2⟩⟩⟩)
        rw [hz1]
        refine sub _ hq1 _ g1 F1 k _ _ (by omega) hR1 (by omega) (fun g2 F2 hR2 hA2 => ⟨_, rfl, cp_and hok ⟨_, rfl, ?_⟩⟩)
        rw [← nI_succ]
        refine rp_until hok hs hp he h16 sub (by omega) C hQ hK c (k + 1) _ _ g2 F2 (by omega) (by omega) hR2 ((hA.trans hA1).trans hA2) ?_
        rw [zAnd_c a (zVv fi fa base R (p - 1) k)]
        exact hz
theorem rp_soon (hok : zOk X) (hs : zRs n base rr R fi fa) {p e : Nat} (hp : p < n) (he : e < R.length) (h16 : fa 16 (base + p) = nI 10) (sub : ∀ q, q < p → zAtS X i x rw rl pl ra n base rr fo eo R xs fi fa q) {g0 : zG} {F0 : Nat → Nat → Int32} {E : zM} (hd : 4 * p + 3 ≤ d) (C : zC X (d + 1) E RX9 cX9_ahead 7 (some .int) "ahead") (hQ : zQ X E K KX)
    (hK : ∀ (g' : zG) (F' : Nat → Nat → Int32), zRc X i x rw rl pl ra n base rr fo eo R xs fi fa g' F' → zAf i n R.length g0 F0 g' F' → K (some (.int (zVv fi fa base R p e))) g') : ∀ (c k : Nat) (s : Int32) (g : zG) (F : Nat → Nat → Int32), R.length = k + c → e ≤ k → zRc X i x rw rl pl ra n base rr fo eo R xs fi fa g F → zAf i n R.length g0 F0 g F → (if zop (fi 2) (fi 5) (fa 7) R (fa 18 (base + p)) e = true then zOr (zsoo (fun k => znr (fa 7) R (fa 18 (base + p)) e k) (zVv fi fa base R (p - 1)) c k s) 2 else zsoo (fun k => znr (fa 7) R (fa 18 (base + p)) e k) (zVv fi fa base R (p - 1)) c k s) = zVv fi fa base R p e →
    GW X E 7 g 25 [(0, .ref rw), (1, .ref (fo p)), (2, .int (nI e)), (3, .int 1), (4, .int s), (5, .int 1), (6, .int (nI k))] []
  | c, k, s, g, F, hc, hek, hR, hA, hz => by
    have h80 := hs.2.2.1
    obtain ⟨w, w1, w2, w3, w4, w5, w6, w7⟩ := hs.1 p hp
    have hww : w = 10 := (nI_eq (by omega) (by omega)).mp (w2.symm.trans h16)
    subst hww
    obtain ⟨y1, y2⟩ := w6 (by decide)
    have hz1 : zfp1 fa base fo p = some (fo (p - 1)) := by
      unfold zfp1
      rw [rp_z h16 (by omega)]
      rfl
    have fin : (if zop (fi 2) (fi 5) (fa 7) R (fa 18 (base + p)) e = true then zOr s 2 else s) = zVv fi fa base R p e → ∃ (k_5 : Nat) (fs_4 : List Value) (v_7 : Int32), zkc k_5 = 7 ∧ zGo g k_5 (fo p) = some fs_4 ∧ fs_4[2]? = some (.int v_7) ∧ zIs g 9 rw ∧ zCal X d yX9_mayCome wX9_mayCome [.ref rw, .int (nI e), .int v_7] g (fun r g_8 => ∃ v_9 : Int32, r = some (.int v_9) ∧ zbo v_9 ∧ (v_9 = 0 → K (some (.int s)) g_8) ∧ (¬ v_9 = 0 → zCal X d yX1_and wX1_and [.int 1, .int 2] g_8 (fun r g_10 => ∃ v_11 : Int32, r = some (.int v_11) ∧ zCal X d yX1_or wX1_or [.int s, .int v_11] g_10 (fun r g_12 => ∃ v_13 : Int32, r = some (.int v_13) ∧ K (some (.int v_13)) g_12) KX) KX)) KX := by
      intro hf
      have hk := hK g F hR hA
      rw [← hf] at hk
      refine ⟨7, _, _, rfl, hR.1.wf hp, rfl, hR.1.w, rp_mayCome' (D := d) (by omega) hok hR.1 he ⟨_, rfl, zbI_b _, fun z => ?_, fun z => cp_and hok ⟨_, rfl, cp_or hok ⟨_, rfl, ?_⟩⟩⟩⟩
      · rw [zbI_0.mp z] at hk
        exact hk
      · rw [show zop (fi 2) (fi 5) (fa 7) R (fa 18 (base + p)) e = true by simpa [zbI_0] using z, if_pos rfl] at hk
        exact hk
    cases c with
    | zero =>
      refine bX9_ahead_25 (d := d) C hQ g _ _ _ _ _ _ _ ⟨_, _, hR.1.1, rfl, hR.1.l, rp_size hok hR.1 ⟨_, rfl, fun _ => fin hz, fun z => absurd (nI_le (by omega) (by omega)) z⟩⟩
    | succ c =>
      refine bX9_ahead_25 (d := d) C hQ g _ _ _ _ _ _ _ ⟨_, _, hR.1.1, rfl, hR.1.l, rp_size hok hR.1 ⟨_, rfl, fun z => absurd z (nI_ge (by omega) (by omega)), fun _ => ⟨7, _, _, rfl, hR.1.wf hp, rfl, hR.1.w, rp_isNear' (D := d) (by omega) hok hR.1 hs (j := e) (k := k) he (by omega) (Or.inr ⟨rfl, rfl⟩) hek ⟨_, rfl, zbI_b _, fun z => fin ?_, fun z => ⟨fun z2 => absurd z2 (by decide), fun _ => ⟨7, _, _, rfl, hR.1.wf hp, rfl, hR.1.w, ?_⟩⟩⟩⟩⟩⟩
      · have hn : znr (fa 7) R (fa 18 (base + p)) e k = false := zbI_0.mp z
        have hop : zop (fi 2) (fi 5) (fa 7) R (fa 18 (base + p)) e = false := by
          cases hb : zop (fi 2) (fi 5) (fa 7) R (fa 18 (base + p)) e with
          | false => rfl
          | true =>
            have := zop_nr hs he (k := k) (by omega) hb
            rw [hn] at this
            cases this
        unfold zsoo at hz
        rw [if_neg (show ¬ (fun k => znr (fa 7) R (fa 18 (base + p)) e k) k = true by show ¬ znr (fa 7) R (fa 18 (base + p)) e k = true; rw [hn]; decide)] at hz
        exact hz
      · have hn : znr (fa 7) R (fa 18 (base + p)) e k = true := by
          cases hb : znr (fa 7) R (fa 18 (base + p)) e k with
          | true => rfl
          | false =>
            rw [hb] at z
            exact absurd rfl z
        unfold zsoo at hz
        rw [if_pos hn] at hz
        rw [hz1]
        refine sub (p - 1) (by omega) _ g F k _ _ (by omega) hR (by omega) (fun g1 F1 hR1 hA1 => ⟨_, rfl, cp_and hok ⟨_, rfl, cp_or hok ⟨_, rfl, fun z2 => absurd z2 (by decide), fun _ => ?_⟩⟩⟩)
        rw [← nI_succ]
        refine rp_soon hok hs hp he h16 sub (by omega) C hQ hK c (k + 1) _ g1 F1 (by omega) (by omega) hR1 (hA.trans hA1) ?_
        rw [zAnd_1 (zVv_3 _ _ _ _ _ _)]
        exact hz
theorem zsg_n : ∀ x : Int32, -2000 ≤ x.toInt → x.toInt ≤ 2000 → (x >>> (31 &&& 31)) ||| (((-x).toUInt32 >>> ((31 : Int32).toUInt32 &&& Int32.toUInt32 31)).toInt32) = if x < 0 then -1 else if x = 0 then 0 else 1 := by
  have key : ∀ k : Nat, k ≤ 2000 → ((nI k >>> (31 &&& 31)) ||| (((-(nI k)).toUInt32 >>> ((31 : Int32).toUInt32 &&& Int32.toUInt32 31)).toInt32) = if k = 0 then 0 else 1) ∧ (((-(nI k)) >>> (31 &&& 31)) ||| (((-(-(nI k))).toUInt32 >>> ((31 : Int32).toUInt32 &&& Int32.toUInt32 31)).toInt32) = if k = 0 then 0 else -1) := by
    intro k hk
    have := zall_n k (by omega)
    exact this
  intro x h1 h2
  by_cases c : x < 0
  · rw [if_pos c]
    have hx := Int32.lt_iff_toInt_lt.mp c
    have hx0 : (0 : Int32).toInt = 0 := rfl
    obtain ⟨k, hk⟩ : ∃ k : Nat, -x.toInt = k := ⟨(-x.toInt).toNat, by omega⟩
    have e : x = -(nI k) := by
      apply Int32.toInt_inj.mp
      have hb : (nI k).toInt = k := nI_toInt (by omega)
      rw [Int32.toInt_neg, hb, Int.bmod_eq_of_le (by omega) (by omega)]
      omega
    rw [e, (key k (by omega)).2, if_neg (by omega)]
  · rw [if_neg c]
    obtain ⟨k, hk, e⟩ := nI_of c
    rw [e] at h2 ⊢
    rw [nI_toInt (by omega)] at h2
    rw [(key k (by omega)).1]
    by_cases c2 : k = 0
    · subst c2
      rfl
    · rw [if_neg c2, if_neg (nI_ne0 (by omega) (by omega))]
end RAH
