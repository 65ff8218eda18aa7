set_option maxRecDepth 100000
/-! the parts that are different: the class keeps those that are new, the model counts those that none ahead is the same as -/
section PRP
variable {fi : Nat → Int32} {fa : Nat → Nat → Int32} {M : Nat} {np : Nat → Nat}
theorem zlvp_i {k : Nat} (h : zlvp np k = true) : k % 24 < np (k / 24) := of_decide_eq_true h
theorem zs3_s {k n : Nat} (h : zs3 fa k n = true) : zs3 fa n k = true := by
  unfold zs3 at h ⊢
  simp only [Bool.and_eq_true, beq_iff_eq] at h ⊢
  exact ⟨h.1.symm, h.2.1.symm, h.2.2.symm⟩
theorem zs3_t {k n m : Nat} (h : zs3 fa k n = true) (h' : zs3 fa n m = true) : zs3 fa k m = true := by
  unfold zs3 at h h' ⊢
  simp only [Bool.and_eq_true, beq_iff_eq] at h h' ⊢
  exact ⟨h.1.trans h'.1, h.2.1.trans h'.2.1, h.2.2.trans h'.2.2⟩
theorem zsm_v (hM : zMo fi fa M np) {k n : Nat} (hk : k < 24 * M) (hn : n < 24 * M) (lk : zlvp np k = true) (ln : zlvp np n = true) : zsm fa (192 + k) (192 + n) = true ↔ zsz fa (192 + n) = zsz fa (192 + k) ∧ ∀ j, j < zsz fa (192 + k) → zs3 fa (192 + k - j) (192 + n - j) = true := by
  have h1 := (hM.2.2 (k / 24) (by omega)).2.2.1
  have h2 := (hM.2.2 (n / 24) (by omega)).2.2.1
  have := zsm_iff h1 h2 (zlvp_i lk) (zlvp_i ln)
  rw [show 192 + 24 * (k / 24) + k % 24 = 192 + k by omega, show 192 + 24 * (n / 24) + n % 24 = 192 + n by omega] at this
  exact this
theorem zsm_sym (hM : zMo fi fa M np) {k n : Nat} (hk : k < 24 * M) (hn : n < 24 * M) (lk : zlvp np k = true) (ln : zlvp np n = true) (h : zsm fa (192 + k) (192 + n) = true) : zsm fa (192 + n) (192 + k) = true := by
  obtain ⟨h1, h2⟩ := (zsm_v hM hk hn lk ln).mp h
  exact (zsm_v hM hn hk ln lk).mpr ⟨h1.symm, fun j hj => zs3_s (h2 j (by omega))⟩
theorem zsm_tr (hM : zMo fi fa M np) {k n m : Nat} (hk : k < 24 * M) (hn : n < 24 * M) (hm : m < 24 * M) (lk : zlvp np k = true) (ln : zlvp np n = true) (lm : zlvp np m = true) (h : zsm fa (192 + k) (192 + n) = true) (h' : zsm fa (192 + n) (192 + m) = true) : zsm fa (192 + k) (192 + m) = true := by
  obtain ⟨h1, h2⟩ := (zsm_v hM hk hn lk ln).mp h
  obtain ⟨h3, h4⟩ := (zsm_v hM hn hm ln lm).mp h'
  exact (zsm_v hM hk hm lk lm).mpr ⟨h3.trans h1, fun j hj => zs3_t (h2 j hj) (h4 j (by omega))⟩
theorem zpo_iff (k : Nat) : ∀ m : Nat, zpo fa np k m = true ↔ ∀ n, n < m → zlvp np n = true → zsm fa (192 + k) (192 + n) = false
  | 0 => ⟨fun _ n hn => absurd hn (Nat.not_lt_zero n), fun _ => rfl⟩
  | m + 1 => by
    rw [zpo_s, Bool.and_eq_true, zpo_iff k m]
    constructor
    · rintro ⟨h1, h2⟩ n hn ln
      by_cases c : n = m
      · subst c
        rw [ln] at h2
        simpa using h2
      · exact h1 n (by omega) ln
    · intro h
      refine ⟨fun n hn => h n (by omega), ?_⟩
      by_cases c : zlvp np m = true
      · rw [h m (by omega) c]
        simp
      · have : zlvp np m = false := by simpa using c
        rw [this]
        rfl
/-- the least one that is the same is new -/
theorem zpN_least (hM : zMo fi fa M np) {k : Nat} (hk : k < 24 * M) (lk : zlvp np k = true) : ∀ (c n : Nat), n < c → n < k → zlvp np n = true → zsm fa (192 + k) (192 + n) = true → ∃ m, m < k ∧ zpN fa np m = true ∧ zsm fa (192 + m) (192 + k) = true
  | 0, n, hc => absurd hc (Nat.not_lt_zero n)
  | c + 1, n, hc => by
    intro hn ln hs
    by_cases h : zpo fa np n n = true
    · exact ⟨n, hn, by unfold zpN; rw [ln, h]; rfl, zsm_sym hM hk (by omega) lk ln hs⟩
    · have : ¬ ∀ m, m < n → zlvp np m = true → zsm fa (192 + n) (192 + m) = false := fun z => h ((zpo_iff n n).mpr z)
      simp only [Classical.not_forall] at this
      obtain ⟨m, hm, lm, h2⟩ := this
      have h2 : zsm fa (192 + n) (192 + m) = true := by simpa using h2
      exact zpN_least hM hk lk c m (by omega) (by omega) lm (zsm_tr hM hk (by omega) (by omega) lk ln lm hs h2)
theorem zpo_new (hM : zMo fi fa M np) {k : Nat} (hk : k < 24 * M) (lk : zlvp np k = true) : zpo fa np k k = true ↔ ∀ m ∈ (List.range k).filter (zpN fa np), zsm fa (192 + m) (192 + k) = false := by
  rw [zpo_iff]
  constructor
  · intro h m hm
    obtain ⟨h1, h2⟩ := List.mem_filter.mp hm
    have hmk := List.mem_range.mp h1
    have lm : zlvp np m = true := by
      unfold zpN at h2
      exact (Bool.and_eq_true _ _ ▸ h2).1
    cases hs : zsm fa (192 + m) (192 + k) with
    | false => rfl
    | true =>
      have := zsm_sym hM (by omega) hk lm lk hs
      rw [h m hmk lm] at this
      cases this
  · intro h n hn ln
    cases hs : zsm fa (192 + k) (192 + n) with
    | false => rfl
    | true =>
      obtain ⟨m, m1, m2, m3⟩ := zpN_least hM hk lk (n + 1) n (by omega) hn ln hs
      rw [h m (List.mem_filter.mpr ⟨List.mem_range.mpr m1, m2⟩)] at m3
      cases m3
theorem zpC_len : ∀ k : Nat, zpC fa np k = nI ((List.range k).filter (zpN fa np)).length
  | 0 => nI_0.symm
  | k + 1 => by
    show zpC fa np k + zbI (zpN fa np k) = _
    rw [zpC_len k, List.range_succ, List.filter_append, List.length_append, ← nI_add]
    congr 1
    by_cases c : zpN fa np k = true
    · rw [c]
      simp [c, zbI]
      rfl
    · have c' : zpN fa np k = false := by simpa using c
      rw [c']
      simp [c', zbI]
      exact nI_0.symm
theorem zpN_gap {i : Nat} : ∀ c : Nat, np i + c ≤ 24 → (List.range (24 * i + np i + c)).filter (zpN fa np) = (List.range (24 * i + np i)).filter (zpN fa np)
  | 0, _ => rfl
  | c + 1, h => by
    rw [← Nat.add_assoc, List.range_succ, List.filter_append, zpN_gap c (by omega)]
    have : zpN fa np (24 * i + np i + c) = false := by
      unfold zpN zlvp
      rw [show (24 * i + np i + c) % 24 = np i + c by omega, show (24 * i + np i + c) / 24 = i by omega, decide_eq_false (by omega)]
      rfl
    simp [this]
end PRP
theorem zIt.ex {g : zG} {q a i : Nat} {mc : Int32} (h : zIt g q a i mc) : ∃ fs, zGo g 11 q = some fs := by
  obtain ⟨x, h⟩ := h
  exact ⟨_, h⟩
theorem zIt.o {g g' : zG} {q a i : Nat} {mc : Int32} (h : zIt g q a i mc) (e : ∀ fs, zGo g 11 q = some fs → zGo g' 11 q = some fs) : zIt g' q a i mc := by
  obtain ⟨x, h⟩ := h
  exact ⟨x, e _ h⟩
section PRC
variable {X : zX} {d : Nat} {x : Nat} {ad fo eo : Nat → Nat} {mo : Nat → Nat → Nat} {c : Nat → Nat × Nat × Nat} {pt pt' : Nat → Nat} {fi fi' : Nat → Int32} {fa fa' : Nat → Nat → Int32} {lg : List Nat} {M P : Nat} {np sz : Nat → Nat} {B : Nat} {g g' : zG} {Q : Nat → Prop} {K : Option Value → zG → Prop} {KX : String → zG → Prop}
/-- all monitors' formulas -/
def zFM (X : zX) (fo : Nat → Nat) (fa : Nat → Nat → Int32) (M : Nat) (np : Nat → Nat) (g : zG) : Prop := ∀ i, i < M → zFo X fa (192 + 24 * i) (np i) (fun p => fo (192 + 24 * i + p)) g
theorem zFM.fe (h : zFM X fo fa M np g) (e : zFe Q g g') (h7 : ¬ Q 7) : zFM X fo fa M np g' := fun i hi => (h i hi).fe e h7
theorem zFM.at (h : zFM X fo fa M np g) {k : Nat} (hk : k < 24 * M) (lk : zlvp np k = true) : ∃ fs, zGo g 7 (fo (192 + k)) = some fs := by
  obtain ⟨s, hs⟩ := h (k / 24) (by omega) (k % 24) (zlvp_i lk)
  have hs : zGo g 7 (fo (192 + 24 * (k / 24) + k % 24)) = some (zff X fa (192 + 24 * (k / 24)) (fun p => fo (192 + 24 * (k / 24) + p)) (k % 24) s) := hs
  rw [show 192 + 24 * (k / 24) + k % 24 = 192 + k by omega] at hs
  exact ⟨_, hs⟩
theorem zFM.same (hok : zOk X) (hM : zMo fi fa M np) (h : zFM X fo fa M np g) {k n : Nat} (hk : k < 24 * M) (hn : n < 24 * M) (lk : zlvp np k = true) (ln : zlvp np n = true) {D : Nat} (hD : 25 ≤ D) (hK : K (some (.int (zbI (zsm fa (192 + k) (192 + n))))) g) : zCal X D yX7_isSame wX7_isSame [.ref (fo (192 + k)), .ref (fo (192 + n))] g K KX := by
  have := cf_isSame (KX := KX) hok (hM.2.2 (k / 24) (by omega)).2.2.1 (hM.2.2 (n / 24) (by omega)).2.2.1 (h (k / 24) (by omega)) (h (n / 24) (by omega)) (k % 24 + 1) (k % 24) (n % 24) (by omega) (zlvp_i lk) (zlvp_i ln) D K
  rw [show 192 + 24 * (k / 24) + k % 24 = 192 + k by omega, show 192 + 24 * (n / 24) + n % 24 = 192 + n by omega] at this
  exact this (by omega) hK
theorem cx_parts_i (hok : zOk X) (hM : zMo fi fa M np) (hFM : zFM X fo fa M np g) {k al a2 a4 q : Nat} (hk : k < 24 * M) (lk : zlvp np k = true) (hL : zLs X g 71 al (((List.range k).filter (zpN fa np)).map (fun k => fo (192 + k))) q) (hz : zGz g + q + 400 ≤ zz X) {E : zM} (C : zC X (d + 26) E RX1 cX1_parts 8 (some .int) "parts") (hQ : zQ X E K KX)
    (hK : ∀ (g2 : zG) (q2 : Nat), zFe (fun k => k = 71) g g2 → zGz g2 + q2 ≤ zGz g + q → zLs X g2 71 al (((List.range (k + 1)).filter (zpN fa np)).map (fun k => fo (192 + k))) q2 → GW X E 8 g2 48 [(1, .ref al), (2, .ref a2), (4, .ref a4)] []) : ∀ (cc j : Nat), ((List.range k).filter (zpN fa np)).length = j + cc → (∀ i, i < j → zsm fa (192 + zr ((List.range k).filter (zpN fa np)) i) (192 + k) = false) →
    GW X E 8 g 76 [(1, .ref al), (2, .ref a2), (4, .ref a4), (5, .ref (fo (192 + k))), (6, .int 1), (7, .int (nI j))] []
  | 0, j, hc, h0 => by
    have hM6 := hM.1
    have hle : ((List.range k).filter (zpN fa np)).length ≤ k := by
      have := List.length_filter_le (zpN fa np) (List.range k)
      rw [List.length_range] at this
      exact this
    obtain ⟨fs, hfs⟩ := hFM.at hk lk
    have hnew : zpN fa np k = true := by
      unfold zpN
      rw [lk, (zpo_new hM hk lk).mpr (fun m hm => ?_)]
      · rfl
      · have h1 := zr_idx hm
        have h2 := h0 _ (show List.idxOf m ((List.range k).filter (zpN fa np)) < j by omega)
        rw [h1.2] at h2
        exact h2
    have hob : ∀ y ∈ ((List.range k).filter (zpN fa np)).map (fun k => fo (192 + k)), zob g y := fun y hy => by
      obtain ⟨m, hm, rfl⟩ := List.mem_map.mp hy
      obtain ⟨h1, h2⟩ := List.mem_filter.mp hm
      have hmk := List.mem_range.mp h1
      have lm : zlvp np m = true := by
        unfold zpN at h2
        exact (Bool.and_eq_true _ _ ▸ h2).1
      obtain ⟨fs, hfs⟩ := hFM.at (show m < 24 * M by omega) lm
      exact ⟨7, by omega, 7, _, hfs, rfl⟩
    refine bX1_parts_76 (d := d + 25) C hQ g _ _ _ _ _ _ ⟨hL.is (by omega), ls_size hok hL (by omega) ⟨_, rfl, fun _ => ⟨fun z => absurd z (by decide), fun _ => ⟨hL.is (by omega), ls_add (d := d + 19) hok hL (by omega) ⟨7, by omega, 7, _, hfs, rfl⟩ hob (by rw [List.length_map]; omega) hz (fun g2 q2 b1 b2 b3 => ⟨_, rfl, Or.inr rfl, hK g2 q2 (b2.fe (by omega)) b3 ?_⟩)⟩⟩, fun z => absurd (show nI _ ≤ nI j by rw [List.length_map, hc, Nat.add_zero]; exact Int32.le_refl _) z⟩⟩
    rw [List.range_succ, List.filter_append, List.map_append]
    have : [k].filter (zpN fa np) = [k] := by simp [hnew]
    rw [this]
    exact b1
  | cc + 1, j, hc, h0 => by
    have hM6 := hM.1
    have hle : ((List.range k).filter (zpN fa np)).length ≤ k := by
      have := List.length_filter_le (zpN fa np) (List.range k)
      rw [List.length_range] at this
      exact this
    have hj : j < ((List.range k).filter (zpN fa np)).length := by omega
    have hmem := zr_mem hj
    obtain ⟨h1, h2⟩ := List.mem_filter.mp hmem
    have hmk := List.mem_range.mp h1
    have lm : zlvp np (zr ((List.range k).filter (zpN fa np)) j) = true := by
      unfold zpN at h2
      exact (Bool.and_eq_true _ _ ▸ h2).1
    obtain ⟨fs, hfs⟩ := hFM.at (show zr ((List.range k).filter (zpN fa np)) j < 24 * M by omega) lm
    refine bX1_parts_76 (d := d + 25) C hQ g _ _ _ _ _ _ ⟨hL.is (by omega), ls_size hok hL (by omega) ⟨_, rfl, fun z => absurd z (by rw [List.length_map]; exact nI_ge (by omega) (by omega)), fun _ => ⟨fun z => absurd z (by decide), fun _ => ⟨hL.is (by omega), ls_getm (d := d + 23) (eo := fun k => fo (192 + k)) hok hL (by omega) hj ⟨_, rfl, _, rfl, ⟨7, _, hfs, rfl⟩, ⟨7, _, hfs, rfl⟩, zFM.same hok hM hFM (by omega) hk lm lk (by omega) ⟨_, rfl, zbI_b _, fun c1 => ?_, fun c1 => ?_⟩⟩⟩⟩⟩⟩
    · have hs : zsm fa (192 + zr ((List.range k).filter (zpN fa np)) j) (192 + k) = true := by
        cases h : zsm fa (192 + zr ((List.range k).filter (zpN fa np)) j) (192 + k) with
        | true => rfl
        | false => rw [h] at c1; exact absurd rfl c1
      have hold : zpN fa np k = false := by
        unfold zpN
        cases h : zpo fa np k k with
        | false => rw [Bool.and_false]
        | true =>
          have := (zpo_new hM hk lk).mp h _ hmem
          rw [hs] at this
          cases this
      have fin : GW X E 8 g 48 [(1, .ref al), (2, .ref a2), (4, .ref a4)] [] := hK g q (zFe.rf _ _) (Nat.le_refl _) (by
        rw [List.range_succ, List.filter_append]
        have : [k].filter (zpN fa np) = [] := by simp [hold]
        rw [this, List.append_nil]
        exact hL)
      exact bX1_parts_76 (d := d + 25) C hQ g _ _ _ _ _ _ ⟨hL.is (by omega), ls_size hok hL (by omega) ⟨_, rfl, fun _ => ⟨fun _ => fin, fun z => absurd rfl z⟩, fun _ => ⟨fun _ => ⟨fun _ => fin, fun z => absurd rfl z⟩, fun z => absurd rfl z⟩⟩⟩
    · have hs : zsm fa (192 + zr ((List.range k).filter (zpN fa np)) j) (192 + k) = false := zbI_0.mp c1
      rw [← nI_succ]
      refine cx_parts_i hok hM hFM hk lk hL hz C hQ hK cc (j + 1) (by omega) (fun i hi => ?_)
      by_cases ci : i = j
      · rw [ci]
        exact hs
      · exact h0 i (by omega)
theorem cx_parts_m (hok : zOk X) (hM : zMo fi fa M np) {i al a2 : Nat} (hi : i < M) {B : Nat} (hB : B + 400 ≤ zz X) {mc : Int32} {cap pl a4 : Nat} {E : zM} (C : zC X (d + 26) E RX1 cX1_parts 8 (some .int) "parts") (hQ : zQ X E K KX) {g0 : zG}
    (hK : ∀ (g2 : zG) (q2 : Nat), zFe (fun k => k = 11 ∨ k = 71) g0 g2 → (∀ b, b ≠ a4 → ∀ fs, zGo g0 11 b = some fs → zGo g2 11 b = some fs) → zGz g2 + q2 ≤ B → zLs X g2 71 al (((List.range (24 * (i + 1))).filter (zpN fa np)).map (fun k => fo (192 + k))) q2 → GW X E 8 g2 18 [(1, .ref al), (2, .ref a2)] []) : ∀ (cc p : Nat) (g : zG) (q : Nat), np i = p + cc → zFe (fun k => k = 11 ∨ k = 71) g0 g → (∀ b, b ≠ a4 → ∀ fs, zGo g0 11 b = some fs → zGo g 11 b = some fs) → zGz g + q ≤ B → zFM X fo fa M np g → zLs X g 71 al (((List.range (24 * i + p)).filter (zpN fa np)).map (fun k => fo (192 + k))) q → zL X g (80 + 3 * i) pl mc ((List.range (np i)).map (fun p => fo (192 + 24 * i + p))) cap → zIt g a4 pl p mc → GW X E 8 g 48 [(1, .ref al), (2, .ref a2), (4, .ref a4)] []
  | 0, p, g, q, hc, hF, hO, hz, hFM, hL, hP, hI => by
    have hM6 := hM.1
    have h24 := (hM.2.2 i hi).1
    have : np i = p := by omega
    subst this
    refine bX1_parts_48 (d := d + 25) C hQ g _ _ _ ⟨hI.is, sp_hasNext hok hP (by omega) hI (by rw [List.length_map, List.length_range]; omega) (fun _ => ⟨0, rfl, Or.inl rfl, fun _ => hK g q hF hO hz ?_, fun z => absurd rfl z⟩) (fun z => absurd z (by rw [List.length_map, List.length_range]; omega))⟩
    have := zpN_gap (fa := fa) (np := np) (i := i) (24 - np i) (by omega)
    rw [show 24 * i + np i + (24 - np i) = 24 * (i + 1) by omega] at this
    rw [this]
    exact hL
  | cc + 1, p, g, q, hc, hF, hO, hz, hFM, hL, hP, hI => by
    have hM6 := hM.1
    have h24 := (hM.2.2 i hi).1
    have hlen : ((List.range (np i)).map (fun p => fo (192 + 24 * i + p))).length = np i := by rw [List.length_map, List.length_range]
    have hzr : zr ((List.range (np i)).map (fun p => fo (192 + 24 * i + p))) p = fo (192 + (24 * i + p)) := by
      rw [zr_el (by omega), List.getElem_map, List.getElem_range, Nat.add_assoc]
    have hk : 24 * i + p < 24 * M := by omega
    have lk : zlvp np (24 * i + p) = true := by
      unfold zlvp
      rw [show (24 * i + p) % 24 = p by omega, show (24 * i + p) / 24 = i by omega]
      exact decide_eq_true (by omega)
    refine bX1_parts_48 (d := d + 25) C hQ g _ _ _ ⟨hI.is, sp_hasNext hok hP (by omega) hI (by omega) (fun z => absurd z (by omega)) (fun _ => ⟨1, rfl, Or.inr rfl, fun z => absurd z (by decide), fun _ => ⟨hI.is, it_next' hok hP (by omega) hI (by omega) (by omega) (fun g1 a1 a2 a3 a4 => ⟨_, rfl, _, rfl, ?_⟩)⟩⟩)⟩
    rw [hzr]
    have hFM1 := hFM.fe a2 (by omega)
    have hL1 := hL.fe a2 (by omega)
    have hP1 := hP.fe a2 (by omega)
    obtain ⟨fs, hfs⟩ := hFM1.at hk lk
    refine ⟨⟨7, _, hfs, rfl⟩, ?_⟩
    rw [show (0 : Int32) = nI 0 from nI_0.symm]
    refine cx_parts_i (d := d) hok hM hFM1 hk lk hL1 (by omega) C hQ (fun g2 q2 b1 b2 b3 => ?_) _ 0 (Nat.zero_add _).symm (fun i hi => absurd hi (Nat.not_lt_zero i))
    exact cx_parts_m hok hM hi hB C hQ hK cc (p + 1) g2 q2 (by omega) ((hF.trans (a2.mono (fun k hk => Or.inl hk))).trans (b1.mono (fun k hk => Or.inr hk))) (fun b hb fs h => b1.1 11 (by omega) _ _ (by rw [a3 b hb]; exact hO b hb fs h)) (by omega) (hFM1.fe b1 (by omega)) b3 (hP1.fe b1 (by omega)) (a1.fe b1 (by omega))
theorem cx_parts_l (hok : zOk X) (hM : zMo fi fa M np) {al : Nat} {B : Nat} (hB : B + 450 ≤ zz X) {mc : Int32} {cap ia : Nat} {E : zM} (C : zC X (d + 26) E RX1 cX1_parts 8 (some .int) "parts") (hQ : zQ X E K KX) {g0 : zG}
    (hK : ∀ (g2 : zG), zFe (fun k => k = 11 ∨ k = 71) g0 g2 → zGz g2 ≤ B → K (some (.int (zpC fa np (24 * M)))) g2) : ∀ (cc i : Nat) (g : zG) (q : Nat), M = i + cc → zFe (fun k => k = 11 ∨ k = 71) g0 g → zGz g + q + 5 * cc ≤ B → (∀ j, j < M → zMs X j x ad (mo j) (fun p => fo (192 + 24 * j + p)) (np j) (fa 24 j) fi fa g) → zLs X g 71 al (((List.range (24 * i)).filter (zpN fa np)).map (fun k => fo (192 + k))) q → zL X g 68 (ad 9) mc ((List.range M).map (fun i => mo i 0)) cap → zIt g ia (ad 9) i mc → GW X E 8 g 18 [(1, .ref al), (2, .ref ia)] []
  | 0, i, g, q, hc, hF, hz, hMs, hL, hP, hI => by
    have hM6 := hM.1
    have : M = i := by omega
    subst this
    refine bX1_parts_18 (d := d + 25) C hQ g _ _ ⟨hI.is, sp_hasNext hok hP (by omega) hI (by rw [List.length_map, List.length_range]; omega) (fun _ => ⟨0, rfl, Or.inl rfl, fun _ => ⟨hL.is (by omega), ls_size hok hL (by omega) ⟨_, rfl, ?_⟩⟩, fun z => absurd rfl z⟩) (fun z => absurd z (by rw [List.length_map, List.length_range]; omega))⟩
    rw [List.length_map, ← zpC_len]
    exact hK g hF (by omega)
  | cc + 1, i, g, q, hc, hF, hz, hMs, hL, hP, hI => by
    have hM6 := hM.1
    have hi : i < M := by omega
    have hlen : ((List.range M).map (fun i => mo i 0)).length = M := by rw [List.length_map, List.length_range]
    have hzr : zr ((List.range M).map (fun i => mo i 0)) i = mo i 0 := by
      rw [zr_el (by omega), List.getElem_map, List.getElem_range]
    refine bX1_parts_18 (d := d + 25) C hQ g _ _ ⟨hI.is, sp_hasNext hok hP (by omega) hI (by omega) (fun z => absurd z (by omega)) (fun _ => ⟨1, rfl, Or.inr rfl, fun z => absurd z (by decide), fun _ => ⟨hI.is, it_next' hok hP (by omega) hI (by omega) (by omega) (fun g1 a1 a2 a3 a4 => ⟨_, rfl, _, rfl, ?_⟩)⟩⟩)⟩
    rw [hzr]
    have hMs1 : ∀ j, j < M → zMs X j x ad (mo j) (fun p => fo (192 + 24 * j + p)) (np j) (fa 24 j) fi fa g1 := fun j hj => (hMs j hj).fe (by omega) a2 (by omega) (by omega) (by omega) (by omega) (by omega) (by omega)
    obtain ⟨m1, -, ⟨q3, mc3, cap3, m3, -⟩, -⟩ := hMs1 i hi
    refine ⟨⟨8, _, m1, rfl⟩, _, _, m1, rfl, m3.is (by omega), it_iterator hok m3 (by omega) (by omega) (by omega) (fun it g2 hfr b1 b2 b3 => ⟨it, rfl, ?_⟩)⟩
    have hne : it ≠ ia := fun z => by
      obtain ⟨fs, hfs⟩ : ∃ fs, zGo g1 11 ia = some fs := zIt.ex a1
      rw [← z, hfr.1 11] at hfs
      cases hfs
    have hFM2 : zFM X fo fa M np g2 := fun j hj p hp => ⟨nI p, b2.1 7 id _ _ ((hMs1 j hj).2.2.2.1 p hp)⟩
    refine cx_parts_m (d := d) (i := i) (B := B - 5 * cc) (g0 := g2) hok hM hi (by omega) C hQ (fun g3 q3 c1 c2 c3 c4 => ?_) (np i) 0 g2 q (Nat.zero_add _).symm (zFe.rf _ _) (fun _ _ _ h => h) (by omega) hFM2 ((hL.fe a2 (by omega)).fe b2 id) (m3.fe b2 id) b1
    refine cx_parts_l hok hM hB C hQ hK cc (i + 1) g3 q3 (by omega) (((hF.trans (a2.mono (fun k hk => Or.inl hk))).trans (b2.mono (fun _ h => h.elim))).trans c1) (by omega) (fun j hj => ((hMs1 j hj).fe (by omega) b2 id id id id id id).fe (by omega) c1 (by omega) (by omega) (by omega) (by omega) (by omega) (by omega)) c4 (((hP.fe a2 (by omega)).fe b2 id).fe c1 (by omega)) ?_
    exact zIt.o (a1.fe b2 id) (c2 ia (fun z => hne z.symm))
/-- parts -/
theorem cs_parts (hok : zOk X) (hV : zPv fi fa lg M P np sz) (hR : zRR X x fi fa lg M P np sz B g) (hB : B + 4000 ≤ zz X) {D : Nat} (hD : 120 ≤ D)
    (h1 : ∀ g' : zG, zFe zPc g g' → zRR X x fi fa lg M P np sz (B + 3000) g' → K (some (.int (zpC fa np (24 * M)))) g') : zCal X D yX1_parts wX1_parts [.ref x] g K KX := by
  obtain ⟨d, rfl⟩ : ∃ d, D = d + 26 := ⟨D - 26, by omega⟩
  obtain ⟨ad, fo, eo, mo, c, pt, hW, hJ, hz⟩ := hR
  have hM := hV.2.2.1
  have hM6 := hM.1
  have w1 := hW.1.1
  refine mX1_parts (d := d + 25) hok x (fun E C hQ => ⟨71, zkc_0 (by omega), by omega, fun al hfr g1 e1 => ?_⟩)
  have f1 : zFe (fun _ => False) g g1 := by
    rw [e1]
    exact zFe.new hfr _
  have z1 : zGz g1 = zGz g + 4 := by rw [e1]; rfl
  refine sp_linit (d := d + 22) hok (t := 71) (by omega) (q := al) (by rw [e1, zSz_o, zSo_o, zup_s]) (fun g2 a1 a2 => ⟨rfl, ?_⟩)
  have f2 := a2.fe (by omega)
  have z2 : zGz g2 = zGz g1 := a2.2.2
  have f02 : zFe (fun k => k = 71) g g2 := (f1.mono (fun _ h => h.elim)).trans f2
  obtain ⟨mc, cap, hL, -⟩ := hW.1.2.2.2.2.2.2.1.fe f02 (by omega)
  refine ⟨_, _, f02.1 1 (by omega) _ _ w1, rfl, hL.is (by omega), it_iterator hok hL (by omega) (by omega) (by omega) (fun q g3 _ b1 b2 b3 => ⟨q, rfl, ?_⟩)⟩
  refine cx_parts_l (d := d) (x := x) (ad := ad) (mo := mo) (fo := fo) (g0 := g3) (B := zGz g + 2100) hok hM (by omega) C hQ (fun g4 c1 c2 => ?_) M 0 g3 2000 (by omega) (zFe.rf _ _) (by omega) (fun j hj => ((hW.2 j hj).1.fe (by omega) f02 (by omega) (by omega) (by omega) (by omega) (by omega) (by omega)).fe (by omega) b2 id id id id id id) ⟨0, 0, a1.fe b2 id, by unfold zpot; omega⟩ (hL.fe b2 id) b1
  have f04 : zFe (fun k => k = 11 ∨ k = 71) g g4 := ((f02.mono (fun k hk => Or.inr hk)).trans (b2.mono (fun _ h => h.elim))).trans c1
  refine h1 g4 (f04.mono (fun k hk => by unfold zPc; omega)) ⟨ad, fo, eo, mo, c, pt, ⟨hW.1.fe f04 (fun k _ _ _ _ h => by omega) (fun k _ _ => by omega) (by omega) (by omega), fun i hi => (hW.2 i hi).fe (by omega) f04 (fun k _ _ h => by omega) (by omega) (by omega) (by omega) (by omega)⟩, hJ, by omega⟩
end PRC
