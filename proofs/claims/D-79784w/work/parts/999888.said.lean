set_option maxRecDepth 100000
/-! the four questions for a least set -/
theorem zIn_in {k n : Nat} (h1 : k < n) (h2 : n < 2 ^ 30) : ¬ zIn (nI k) 0 (nI n - 1) = 0 := by
  obtain ⟨m, rfl⟩ : ∃ m, n = m + 1 := ⟨n - 1, by omega⟩
  unfold zIn
  rw [nI_pred, if_neg (nI_pos (by omega)), if_neg (nI_nlt (by omega) (by omega))]
  decide
theorem zlf_lt {Pd : Nat → Bool} {n most : Nat} {kf : Bool} : ∀ f s : Nat, zlf Pd n most kf f s < 2 ^ n
  | 0, _ => Nat.two_pow_pos _
  | f + 1, s => by
    show (if most < s ∨ kf = false then 0 else match (zlm n 0 s 0).find? Pd with
      | some y => y
      | none => zlf Pd n most kf f (s + 1)) < 2 ^ n
    split
    · exact Nat.two_pow_pos _
    · split
      · next y h =>
        have := ((zlm_mem n 0 s 0 (by decide) y).mp (List.mem_of_find?_eq_some h)).1
        rw [Nat.zero_add] at this
        exact this
      · exact zlf_lt f (s + 1)
theorem zle_lt {fi : Nat → Int32} {fa : Nat → Nat → Int32} {lg : List Nat} {i n p : Nat} {mb : Bool} (h16 : lg.length ≤ 16) : zle fi fa lg i n p mb < 2 ^ lg.length := by
  rw [zle_f h16]
  exact zlf_lt 5 1
theorem zon1_z {s n : Nat} (hs : s < 2 ^ n) (h : zon1 s n = 0) : s = 0 := by
  have := zon1_eq (s := s) (j := 0) n (by rw [Nat.zero_add]; exact h)
  rw [Nat.zero_add, Nat.mod_eq_of_lt hs, Nat.pow_zero, Nat.mod_one] at this
  exact this
/-- the places from k on -/
def zss (lg : List Nat) (b : Nat → Bool) : Nat → Nat → List Nat
  | 0, _ => []
  | c + 1, k => if b k = true then zr lg k :: zss lg b c (k + 1) else zss lg b c (k + 1)
theorem zss_b {lg : List Nat} {b : Nat → Bool} : ∀ c k : Nat, zsb lg b (k + c) = zsb lg b k ++ zss lg b c k
  | 0, k => (List.append_nil _).symm
  | c + 1, k => by
    rw [show k + (c + 1) = k + 1 + c by omega, zss_b c (k + 1)]
    show (zsb lg b k ++ (if b k = true then [zr lg k] else [])) ++ zss lg b c (k + 1) = zsb lg b k ++ (if b k = true then zr lg k :: zss lg b c (k + 1) else zss lg b c (k + 1))
    split
    · rw [List.append_assoc]
      rfl
    · rw [List.append_nil]
theorem zto_s {lg : List Nat} {s : Nat} : ∀ c k j : Nat, j < 2 ^ 31 → zto lg s c k (nI j) = if j < (zss lg (zbt s) c k).length then nI (zr (zss lg (zbt s) c k) j) else -1
  | 0, k, j, h => (if_neg (Nat.not_lt_zero j)).symm
  | c + 1, k, j, h => by
    show (if zbt s k = true then if nI j = 0 then nI (zr lg k) else zto lg s c (k + 1) (nI j + (-1)) else zto lg s c (k + 1) (nI j)) = if j < (if zbt s k = true then zr lg k :: zss lg (zbt s) c (k + 1) else zss lg (zbt s) c (k + 1)).length then nI (zr (if zbt s k = true then zr lg k :: zss lg (zbt s) c (k + 1) else zss lg (zbt s) c (k + 1)) j) else -1
    by_cases hb : zbt s k = true
    · rw [if_pos hb, if_pos hb]
      cases j with
      | zero =>
        rw [if_pos nI_0, if_pos (by rw [List.length_cons]; omega)]
        rfl
      | succ j =>
        rw [if_neg (fun z => by have := (nI_eq (a := j + 1) (b := 0) (by omega) (by omega)).mp z; omega), show nI (j + 1) + (-1) = nI j from by rw [← Int32.sub_eq_add_neg]; exact nI_pred j, zto_s c (k + 1) j (by omega)]
        by_cases hj : j < (zss lg (zbt s) c (k + 1)).length
        · rw [if_pos hj, if_pos (by rw [List.length_cons]; omega)]
          rfl
        · rw [if_neg hj, if_neg (by rw [List.length_cons]; omega)]
    · rw [if_neg hb, if_neg hb]
      exact zto_s c (k + 1) j h
theorem zto_b {lg : List Nat} {s j : Nat} (h : j < 2 ^ 31) : zto lg s lg.length 0 (nI j) = if j < (zsb lg (zbt s) lg.length).length then nI (zr (zsb lg (zbt s) lg.length) j) else -1 := by
  have := zss_b (lg := lg) (b := zbt s) lg.length 0
  rw [Nat.zero_add] at this
  rw [this]
  exact zto_s lg.length 0 j h
section SAI
variable {X : zX} {d : Nat} {x : Nat} {fi : Nat → Int32} {fa : Nat → Nat → Int32} {lg : List Nat} {M P : Nat} {np sz : Nat → Nat} {B : Nat} {g : zG} {K : Option Value → zG → Prop} {KX : String → zG → Prop}
theorem cx_s1 (hok : zOk X) (hV : zPv fi fa lg M P np sz) (hR : zRR X x fi fa lg M P np sz B g) (hB : B + 8000 ≤ zz X) {v u : Int32} {mb : Bool} {D : Nat} (hD : 200 ≤ D)
    (h1 : zxl M lg.length v u = 0 → ∀ i e : Nat, i < M → e < lg.length → v = nI i → u = nI e → ∀ g' : zG, zFe zPc g g' → zRR X x fi fa lg M P np sz (B + 5000) g' → K (some (.int (zq1 fi fa lg np mb i e))) g')
    (hx : ∀ (cd : Int32) (s : String), zxl M lg.length v u = cd → (cd = 1 ∧ s = RJ9) ∨ (cd = 2 ∧ s = RJ13) → KX s (zSz g (zGz g + 7))) : zIs g 1 x ∧ zCal X D yX1_setFor wX1_setFor [.ref x, .int v, .int u, .int (zbI (!mb))] g (fun r g_1 => ∃ a_3 : Nat, r = some (.ref a_3) ∧ zIs g_1 0 a_3 ∧ zCal X D yJ2_size wJ2_size [.ref a_3] g_1 (fun r g_4 => ∃ v_5 : Int32, r = some (.int v_5) ∧ (¬ v_5 = 0 → K (some (.int v_5)) g_4) ∧ (v_5 = 0 → K (some (.int (-1))) g_4)) KX) KX := by
  have hw : zIs g 1 x := by
    obtain ⟨ad, fo, eo, mo, c, pt, hW, hJ, hz⟩ := hR
    exact ⟨1, _, hW.1.1, rfl⟩
  refine ⟨hw, cx_setFor hok hV hR hB hD (fun h0 h16 i e hi he ev eu g1 eo bl pb a1 a2 a3 a4 => ⟨_, rfl, a3.is (by omega), ?_⟩) hx⟩
  have hlt := zle_lt (fi := fi) (fa := fa) (i := i) (n := np i) (p := lg.idxOf e) (mb := mb) h16
  have hon := zsb_on (lg := lg) (s := zle fi fa lg i (np i) (lg.idxOf e) mb) lg.length
  have hle := zsb_len lg (zbt (zle fi fa lg i (np i) (lg.idxOf e) mb)) lg.length
  have h3 := h1 h0 i e hi he ev eu g1 a1 a2
  unfold zq1 at h3
  refine ls_size hok a3 (by omega) ⟨_, rfl, fun c => ?_, fun c => ?_⟩
  · rw [List.length_map] at c ⊢
    rw [if_neg (fun z => c (by rw [hon, z, zon1_0]; exact nI_0)), show (16 : Nat) = lg.length + (16 - lg.length) by omega, zon1_hi hlt, ← hon] at h3
    exact h3
  · rw [List.length_map, hon] at c
    have := (nI_eq (b := 0) (by omega) (by omega)).mp c
    rw [if_pos (zon1_z hlt this)] at h3
    exact h3
theorem cx_s2 (hok : zOk X) (hV : zPv fi fa lg M P np sz) (hR : zRR X x fi fa lg M P np sz B g) (hB : B + 8000 ≤ zz X) {v u q : Int32} {mb : Bool} {D : Nat} (hD : 200 ≤ D)
    (h1 : zxl M lg.length v u = 0 → ∀ i e : Nat, i < M → e < lg.length → v = nI i → u = nI e → ∀ g' : zG, zFe zPc g g' → zRR X x fi fa lg M P np sz (B + 5000) g' → K (some (.int (zq2 fi fa lg np mb q i e))) g')
    (hx : ∀ (cd : Int32) (s : String), zxl M lg.length v u = cd → (cd = 1 ∧ s = RJ9) ∨ (cd = 2 ∧ s = RJ13) → KX s (zSz g (zGz g + 7))) : zIs g 1 x ∧ zCal X D yX1_setFor wX1_setFor [.ref x, .int v, .int u, .int (zbI (!mb))] g (fun r g_1 => ∃ a_3 : Nat, r = some (.ref a_3) ∧ zIs g_1 0 a_3 ∧ zCal X D yJ2_size wJ2_size [.ref a_3] g_1 (fun r g_4 => ∃ v_5 : Int32, r = some (.int v_5) ∧ zCal X D yX1_isIn wX1_isIn [.int q, .int 0, .int (v_5 - 1)] g_4 (fun r g_6 => ∃ v_7 : Int32, r = some (.int v_7) ∧ zbo v_7 ∧ (v_7 = 0 → K (some (.int (-1))) g_6) ∧ (¬ v_7 = 0 → zIs g_6 0 a_3 ∧ zCal X D yJ2_get wJ2_get [.ref a_3, .int q] g_6 (fun r g_8 => ∃ r_9 : Option Nat, r = some (va_rf r_9) ∧ ∃ a_10 : Nat, r_9 = some a_10 ∧ zIs g_8 4 a_10 ∧ ∃ (fs_11 : List Value) (v_12 : Int32), zGo g_8 4 a_10 = some fs_11 ∧ fs_11[0]? = some (.int v_12) ∧ K (some (.int v_12)) g_8) KX)) KX) KX) KX := by
  have hw : zIs g 1 x := by
    obtain ⟨ad, fo, eo, mo, c, pt, hW, hJ, hz⟩ := hR
    exact ⟨1, _, hW.1.1, rfl⟩
  have h80 := hV.1.2.1
  obtain ⟨d, rfl⟩ : ∃ d, D = d + 8 := ⟨D - 8, by omega⟩
  refine ⟨hw, cx_setFor hok hV hR hB hD (fun h0 h16 i e hi he ev eu g1 eo bl pb a1 a2 a3 a4 => ⟨_, rfl, a3.is (by omega), ?_⟩) hx⟩
  have hle := zsb_len lg (zbt (zle fi fa lg i (np i) (lg.idxOf e) mb)) lg.length
  have h3 := h1 h0 i e hi he ev eu g1 a1 a2
  unfold zq2 at h3
  refine ls_size hok a3 (by omega) ⟨_, rfl, ?_⟩
  rw [List.length_map]
  refine cx_isIn hok ⟨_, rfl, zIn_bo _ _ _, fun c => ?_, fun c => ?_⟩
  · by_cases hq : q < 0
    · rw [if_pos hq] at h3
      exact h3
    · obtain ⟨N, hN⟩ : ∃ N : Nat, N = 2147483647 := ⟨_, rfl⟩
      obtain ⟨j, hj, rfl⟩ := nI_ti (x := q) (N := N) (by rw [Int32.lt_iff_toInt_lt] at hq; rw [show (0 : Int32).toInt = 0 by decide] at hq; omega) (by have := Int32.toInt_lt q; omega) (by omega)
      rw [if_neg hq, zto_b (by omega), if_neg (fun z => zIn_in z (by omega) c)] at h3
      exact h3
  · obtain ⟨n, hn⟩ : ∃ n, (zsb lg (zbt (zle fi fa lg i (np i) (lg.idxOf e) mb)) lg.length).length = n := ⟨_, rfl⟩
    rw [hn] at c hle
    have hq : ∃ j, j < n ∧ q = nI j := by
      cases n with
      | zero =>
        obtain ⟨a, b⟩ := zIn_t c
        rw [show (0 : Int32).toInt = 0 by decide] at a
        rw [nI_0, show ((0 : Int32) - 1).toInt = -1 by decide] at b
        omega
      | succ n =>
        rw [nI_pred] at c
        obtain ⟨a, b⟩ := zIn_t c
        rw [show (0 : Int32).toInt = 0 by decide] at a
        rw [nI_toInt (by omega)] at b
        obtain ⟨j, j1, j2⟩ := nI_ti a b (by omega)
        exact ⟨j, by omega, j2⟩
    obtain ⟨j, hj, rfl⟩ := hq
    rw [if_neg (nI_pos (by omega)), zto_b (by omega), hn, if_pos hj] at h3
    have hm : zr (zsb lg (zbt (zle fi fa lg i (np i) (lg.idxOf e) mb)) lg.length) j ∈ lg := zsb_sl.subset (zr_mem (by rw [hn]; exact hj))
    have hev := a4 _ hm
    exact ⟨a3.is (by omega), ls_getm (d := d + 6) hok a3 (by omega) (by rw [hn]; exact hj) ⟨some _, rfl, _, rfl, ⟨4, _, hev, rfl⟩, _, _, hev, rfl, h3⟩⟩
theorem cs_explanation (hok : zOk X) (hV : zPv fi fa lg M P np sz) (hR : zRR X x fi fa lg M P np sz B g) (hB : B + 8000 ≤ zz X) {v u : Int32} {D : Nat} (hD : 201 ≤ D)
    (h1 : zxl M lg.length v u = 0 → ∀ i e : Nat, i < M → e < lg.length → v = nI i → u = nI e → ∀ g' : zG, zFe zPc g g' → zRR X x fi fa lg M P np sz (B + 5000) g' → K (some (.int (zq1 fi fa lg np false i e))) g')
    (hx : ∀ (cd : Int32) (s : String), zxl M lg.length v u = cd → (cd = 1 ∧ s = RJ9) ∨ (cd = 2 ∧ s = RJ13) → KX s (zSz g (zGz g + 7))) : zCal X D yX1_explanation wX1_explanation [.ref x, .int v, .int u] g K KX := by
  obtain ⟨d, rfl⟩ : ∃ d, D = d + 1 := ⟨D - 1, by omega⟩
  exact mX1_explanation hok x v u (cx_s1 (mb := false) hok hV hR hB (by omega) h1 hx)
theorem cs_mend (hok : zOk X) (hV : zPv fi fa lg M P np sz) (hR : zRR X x fi fa lg M P np sz B g) (hB : B + 8000 ≤ zz X) {v u : Int32} {D : Nat} (hD : 201 ≤ D)
    (h1 : zxl M lg.length v u = 0 → ∀ i e : Nat, i < M → e < lg.length → v = nI i → u = nI e → ∀ g' : zG, zFe zPc g g' → zRR X x fi fa lg M P np sz (B + 5000) g' → K (some (.int (zq1 fi fa lg np true i e))) g')
    (hx : ∀ (cd : Int32) (s : String), zxl M lg.length v u = cd → (cd = 1 ∧ s = RJ9) ∨ (cd = 2 ∧ s = RJ13) → KX s (zSz g (zGz g + 7))) : zCal X D yX1_mend wX1_mend [.ref x, .int v, .int u] g K KX := by
  obtain ⟨d, rfl⟩ : ∃ d, D = d + 1 := ⟨D - 1, by omega⟩
  exact mX1_mend hok x v u (cx_s1 (mb := true) hok hV hR hB (by omega) h1 hx)
theorem cs_explainedBy (hok : zOk X) (hV : zPv fi fa lg M P np sz) (hR : zRR X x fi fa lg M P np sz B g) (hB : B + 8000 ≤ zz X) {v u q : Int32} {D : Nat} (hD : 201 ≤ D)
    (h1 : zxl M lg.length v u = 0 → ∀ i e : Nat, i < M → e < lg.length → v = nI i → u = nI e → ∀ g' : zG, zFe zPc g g' → zRR X x fi fa lg M P np sz (B + 5000) g' → K (some (.int (zq2 fi fa lg np false q i e))) g')
    (hx : ∀ (cd : Int32) (s : String), zxl M lg.length v u = cd → (cd = 1 ∧ s = RJ9) ∨ (cd = 2 ∧ s = RJ13) → KX s (zSz g (zGz g + 7))) : zCal X D yX1_explainedBy wX1_explainedBy [.ref x, .int v, .int u, .int q] g K KX := by
  obtain ⟨d, rfl⟩ : ∃ d, D = d + 1 := ⟨D - 1, by omega⟩
  exact mX1_explainedBy hok x v u q (cx_s2 (mb := false) hok hV hR hB (by omega) h1 hx)
theorem cs_mendedBy (hok : zOk X) (hV : zPv fi fa lg M P np sz) (hR : zRR X x fi fa lg M P np sz B g) (hB : B + 8000 ≤ zz X) {v u q : Int32} {D : Nat} (hD : 201 ≤ D)
    (h1 : zxl M lg.length v u = 0 → ∀ i e : Nat, i < M → e < lg.length → v = nI i → u = nI e → ∀ g' : zG, zFe zPc g g' → zRR X x fi fa lg M P np sz (B + 5000) g' → K (some (.int (zq2 fi fa lg np true q i e))) g')
    (hx : ∀ (cd : Int32) (s : String), zxl M lg.length v u = cd → (cd = 1 ∧ s = RJ9) ∨ (cd = 2 ∧ s = RJ13) → KX s (zSz g (zGz g + 7))) : zCal X D yX1_mendedBy wX1_mendedBy [.ref x, .int v, .int u, .int q] g K KX := by
  obtain ⟨d, rfl⟩ : ∃ d, D = d + 1 := ⟨D - 1, by omega⟩
  exact mX1_mendedBy hok x v u q (cx_s2 (mb := true) hok hV hR hB (by omega) h1 hx)
end SAI
