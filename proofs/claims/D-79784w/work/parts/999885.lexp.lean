set_option maxRecDepth 100000
/-! SETS OF PLACES: the class looks through them by the places, the model by the numbers; both find the least -/
/-- the lowest bit of e is i -/
def zlwb (e i : Nat) : Prop := e.testBit i = true ∧ ∀ j, j < i → e.testBit j = false
/-- a has the lower place where they differ first -/
def zlt (a b : Nat) : Prop := ∃ i, a.testBit i = true ∧ b.testBit i = false ∧ ∀ j, j < i → a.testBit j = b.testBit j
theorem zlwb_iff : ∀ (i e : Nat), 0 < e → ((e.testBit i = true ∧ (e - 1).testBit i = false) ↔ zlwb e i)
  | 0, e, h => by
    refine ⟨fun z => ⟨z.1, fun j hj => absurd hj (Nat.not_lt_zero j)⟩, fun z => ⟨z.1, ?_⟩⟩
    have h1 := z.1
    rw [Nat.testBit_zero] at h1 ⊢
    have : e % 2 = 1 := of_decide_eq_true h1
    exact decide_eq_false (by omega)
  | i + 1, e, h => by
    rw [Nat.testBit_succ, Nat.testBit_succ]
    by_cases c : e % 2 = 1
    · have e2 : (e - 1) / 2 = e / 2 := by omega
      rw [e2]
      refine ⟨fun z => ?_, fun z => ?_⟩
      · rw [z.1] at z
        exact absurd z.2 (by decide)
      · have := z.2 0 (by omega)
        rw [Nat.testBit_zero, decide_eq_true c] at this
        cases this
    · have e2 : (e - 1) / 2 = e / 2 - 1 := by omega
      rw [e2, zlwb_iff i (e / 2) (by omega)]
      unfold zlwb
      rw [Nat.testBit_succ]
      refine and_congr_right (fun _ => ⟨fun z j hj => ?_, fun z j hj => ?_⟩)
      · cases j with
        | zero =>
          rw [Nat.testBit_zero]
          exact decide_eq_false c
        | succ j =>
          rw [Nat.testBit_succ]
          exact z j (by omega)
      · have := z (j + 1) (by omega)
        rw [Nat.testBit_succ] at this
        exact this
theorem zb_xor (a b : Nat) : nI a ^^^ nI b = nI (a ^^^ b) := by
  unfold nI
  apply Int32.toBitVec_inj.mp
  rw [Int32.toBitVec_xor]
  show BitVec.ofNat 32 a ^^^ BitVec.ofNat 32 b = BitVec.ofNat 32 (a ^^^ b)
  rw [BitVec.ofNat_xor]
theorem zb_neg {e : Nat} (h : 0 < e) (h2 : e < 2 ^ 31) : -(nI e) = nI (2 ^ 32 - e) := by
  unfold nI
  apply Int32.toBitVec_inj.mp
  rw [Int32.toBitVec_neg]
  show -(BitVec.ofNat 32 e) = BitVec.ofNat 32 (2 ^ 32 - e)
  apply BitVec.eq_of_toNat_eq
  rw [BitVec.toNat_neg, BitVec.toNat_ofNat, BitVec.toNat_ofNat]
  omega
theorem zls_iff {a b : Nat} (ha : a < 2 ^ 16) (hb : b < 2 ^ 16) : zls (nI a) (nI b) = true ↔ zlt a b := by
  have hx : a ^^^ b < 2 ^ 16 := Nat.xor_lt_two_pow ha hb
  have red : zls (nI a) (nI b) = !(nI (a &&& (a ^^^ b)) &&& (-(nI (a ^^^ b))) == 0) := by
    unfold zls
    rw [zb_xor, zb_and]
  by_cases h0 : a ^^^ b = 0
  · rw [red, h0, Nat.and_zero]
    refine ⟨fun z => ?_, fun ⟨i, h1, h2, h3⟩ => ?_⟩
    · exact absurd z (by decide)
    · have : (a ^^^ b).testBit i = true := by
        rw [Nat.testBit_xor, h1, h2]
        rfl
      rw [h0, Nat.zero_testBit] at this
      cases this
  · have hp : 0 < a ^^^ b := Nat.pos_of_ne_zero h0
    rw [red, zb_neg hp (by omega), zb_and]
    have key : ∀ i, (a &&& (a ^^^ b) &&& (2 ^ 32 - (a ^^^ b))).testBit i = (a.testBit i && ((a ^^^ b).testBit i && (decide (i < 32) && !((a ^^^ b) - 1).testBit i))) := fun i => by
      have e : 2 ^ 32 - (a ^^^ b) = 2 ^ 32 - (((a ^^^ b) - 1) + 1) := by omega
      rw [e, Nat.testBit_and, Nat.testBit_and, Nat.testBit_two_pow_sub_succ (by omega), Bool.and_assoc]
    have hlt : a &&& (a ^^^ b) &&& (2 ^ 32 - (a ^^^ b)) < 2 ^ 16 := Nat.lt_of_le_of_lt Nat.and_le_left (Nat.lt_of_le_of_lt Nat.and_le_left ha)
    have hz : (nI (a &&& (a ^^^ b) &&& (2 ^ 32 - (a ^^^ b))) == 0) = false ↔ ¬ a &&& (a ^^^ b) &&& (2 ^ 32 - (a ^^^ b)) = 0 := by
      rw [beq_eq_false_iff_ne]
      exact not_congr (nI_eq (b := 0) (by omega) (by omega))
    rw [Bool.not_eq_true', hz]
    constructor
    · intro h
      obtain ⟨i, hi⟩ := Nat.exists_testBit_of_ne_zero h
      rw [key i] at hi
      simp only [Bool.and_eq_true, Bool.not_eq_true', decide_eq_true_eq] at hi
      obtain ⟨h1, h2, h3, h4⟩ := hi
      obtain ⟨-, h5⟩ := (zlwb_iff i _ hp).mp ⟨h2, h4⟩
      refine ⟨i, h1, ?_, fun j hj => ?_⟩
      · rw [Nat.testBit_xor, h1] at h2
        simpa using h2
      · have := h5 j hj
        rw [Nat.testBit_xor] at this
        simpa using this
    · rintro ⟨i, h1, h2, h3⟩ h
      have hw : zlwb (a ^^^ b) i := ⟨by rw [Nat.testBit_xor, h1, h2]; rfl, fun j hj => by rw [Nat.testBit_xor, h3 j hj]; simp⟩
      obtain ⟨q1, q2⟩ := (zlwb_iff i _ hp).mpr hw
      have hi32 : i < 32 := by
        by_cases c : i < 32
        · exact c
        · rw [Nat.testBit_lt_two_pow (Nat.lt_of_lt_of_le ha (Nat.pow_le_pow_right (by omega) (show 16 ≤ i by omega)))] at h1
          cases h1
      have := key i
      rw [h, Nat.zero_testBit, h1, q1, q2, decide_eq_true hi32] at this
      cases this
theorem zlt_as {a b : Nat} (h : zlt a b) (h' : zlt b a) : False := by
  obtain ⟨i, a1, a2, a3⟩ := h
  obtain ⟨j, b1, b2, b3⟩ := h'
  by_cases c : i < j
  · have := b3 i c
    rw [a1, a2] at this
    cases this
  · by_cases c2 : j < i
    · have := a3 j c2
      rw [b1, b2] at this
      cases this
    · have : i = j := by omega
      subst this
      rw [a1] at b2
      cases b2
theorem zlt_tr {a b c : Nat} (h : zlt a b) (h' : zlt b c) : zlt a c := by
  obtain ⟨i, a1, a2, a3⟩ := h
  obtain ⟨j, b1, b2, b3⟩ := h'
  by_cases k : i < j
  · exact ⟨i, a1, by rw [← b3 i k]; exact a2, fun u hu => (a3 u hu).trans (b3 u (by omega))⟩
  · by_cases k2 : j < i
    · exact ⟨j, by rw [a3 j k2]; exact b1, b2, fun u hu => (a3 u (by omega)).trans (b3 u hu)⟩
    · have : i = j := by omega
      subst this
      rw [a2] at b1
      cases b1
theorem zlt_tot : ∀ (n a b : Nat), a < 2 ^ n → b < 2 ^ n → a ≠ b → zlt a b ∨ zlt b a
  | 0, a, b, ha, hb, h => absurd (show a = b by omega) h
  | n + 1, a, b, ha, hb, h => by
    have hp : 2 ^ (n + 1) = 2 * 2 ^ n := by rw [Nat.pow_succ, Nat.mul_comm]
    by_cases c : a % 2 = b % 2
    · have up : ∀ {u v : Nat}, u % 2 = v % 2 → zlt (u / 2) (v / 2) → zlt u v := fun {u v} e ⟨i, h1, h2, h3⟩ => ⟨i + 1, by rw [Nat.testBit_succ]; exact h1, by rw [Nat.testBit_succ]; exact h2, fun j hj => by
        cases j with
        | zero => rw [Nat.testBit_zero, Nat.testBit_zero, e]
        | succ j =>
          rw [Nat.testBit_succ, Nat.testBit_succ]
          exact h3 j (by omega)⟩
      rcases zlt_tot n (a / 2) (b / 2) (by omega) (by omega) (by omega) with q | q
      · exact Or.inl (up c q)
      · exact Or.inr (up c.symm q)
    · by_cases c2 : a % 2 = 1
      · exact Or.inl ⟨0, by rw [Nat.testBit_zero]; exact decide_eq_true c2, by rw [Nat.testBit_zero]; exact decide_eq_false (by omega), fun j hj => absurd hj (Nat.not_lt_zero j)⟩
      · exact Or.inr ⟨0, by rw [Nat.testBit_zero]; exact decide_eq_true (by omega), by rw [Nat.testBit_zero]; exact decide_eq_false c2, fun j hj => absurd hj (Nat.not_lt_zero j)⟩
/-- so many bits: by the low ones and the high ones -/
theorem zon1_lo {s t : Nat} : ∀ j : Nat, s % 2 ^ j = t % 2 ^ j → zon1 s j = zon1 t j
  | 0, _ => rfl
  | j + 1, h => by
    have hp : 2 ^ (j + 1) = 2 ^ j * 2 := Nat.pow_succ 2 j
    rw [hp, Nat.mod_mul, Nat.mod_mul] at h
    have h2 := Nat.two_pow_pos j
    have l1 := Nat.mod_lt s h2
    have l2 := Nat.mod_lt t h2
    have e1 : s % 2 ^ j = t % 2 ^ j := by
      have := congrArg (· % 2 ^ j) h
      simp only [Nat.add_mul_mod_self_left, Nat.mod_mod] at this
      exact this
    have e2 : s / 2 ^ j % 2 = t / 2 ^ j % 2 := by
      rw [e1] at h
      exact Nat.eq_of_mul_eq_mul_left h2 (Nat.add_left_cancel h)
    show zon1 s j + s / 2 ^ j % 2 = zon1 t j + t / 2 ^ j % 2
    rw [zon1_lo j e1, e2]
theorem zon1_mono (s j : Nat) : ∀ c : Nat, zon1 s j ≤ zon1 s (j + c)
  | 0 => Nat.le_refl _
  | c + 1 => Nat.le_trans (zon1_mono s j c) (Nat.le_add_right _ _)
/-- no bit more, no change -/
theorem zon1_eq {s j : Nat} : ∀ c : Nat, zon1 s (j + c) = zon1 s j → s % 2 ^ (j + c) = s % 2 ^ j
  | 0, _ => rfl
  | c + 1, h => by
    have h1 : zon1 s (j + c) + s / 2 ^ (j + c) % 2 = zon1 s j := h
    have h2 := zon1_mono s j c
    have ih := zon1_eq (s := s) (j := j) c (by omega)
    rw [← Nat.add_assoc, Nat.pow_succ, Nat.mod_mul, show s / 2 ^ (j + c) % 2 = 0 by omega, Nat.mul_zero, Nat.add_zero]
    exact ih
/-- sets of places, by the places: c from j on, of need more, with x of the first j -/
def zlm : Nat → Nat → Nat → Nat → List Nat
  | _, _, 0, x => [x]
  | 0, _, _ + 1, _ => []
  | c + 1, j, n + 1, x => zlm c (j + 1) n (x + 2 ^ j) ++ zlm c (j + 1) (n + 1) x
theorem zlm_0 (c j x : Nat) : zlm c j 0 x = [x] := by cases c <;> rfl
theorem zlm_mem : ∀ (c j n x : Nat), x < 2 ^ j → ∀ y, y ∈ zlm c j n x ↔ y < 2 ^ (j + c) ∧ y % 2 ^ j = x ∧ zon1 y (j + c) = zon1 x j + n
  | c, j, 0, x, hx, y => by
    rw [zlm_0, List.mem_singleton]
    constructor
    · intro h
      subst h
      have h2 : y < 2 ^ (j + c) := Nat.lt_of_lt_of_le hx (Nat.pow_le_pow_right (by omega) (by omega))
      refine ⟨h2, Nat.mod_eq_of_lt hx, ?_⟩
      have : ∀ c, zon1 y (j + c) = zon1 y j := fun c => by
        induction c with
        | zero => rfl
        | succ c ih =>
          show zon1 y (j + c) + y / 2 ^ (j + c) % 2 = _
          rw [ih, Nat.div_eq_of_lt (Nat.lt_of_lt_of_le hx (Nat.pow_le_pow_right (by omega) (by omega)))]
          rfl
      exact this c
    · rintro ⟨h1, h2, h3⟩
      have e : zon1 y j = zon1 x j := zon1_lo j (by rw [h2, Nat.mod_eq_of_lt hx])
      have := zon1_eq (s := y) (j := j) c (by omega)
      rw [Nat.mod_eq_of_lt h1, h2] at this
      exact this
  | 0, j, n + 1, x, hx, y => by
    show y ∈ ([] : List Nat) ↔ _
    refine ⟨fun h => (by cases h), fun ⟨h1, h2, h3⟩ => ?_⟩
    have e : zon1 y j = zon1 x j := zon1_lo j (by rw [h2, Nat.mod_eq_of_lt hx])
    rw [Nat.add_zero] at h3
    omega
  | c + 1, j, n + 1, x, hx, y => by
    have hp : 2 ^ (j + 1) = 2 ^ j * 2 := Nat.pow_succ 2 j
    have hjc : j + 1 + c = j + (c + 1) := by omega
    show y ∈ zlm c (j + 1) n (x + 2 ^ j) ++ zlm c (j + 1) (n + 1) x ↔ _
    rw [List.mem_append, zlm_mem c (j + 1) n (x + 2 ^ j) (by omega), zlm_mem c (j + 1) (n + 1) x (by omega), hjc]
    have z1 : zon1 (x + 2 ^ j) (j + 1) = zon1 x j + 1 := by
      show zon1 (x + 2 ^ j) j + (x + 2 ^ j) / 2 ^ j % 2 = _
      rw [zon1_lo (t := x) j (by rw [Nat.add_mod_right]), Nat.add_div_right _ (Nat.two_pow_pos j), Nat.div_eq_of_lt hx]
    have z0 : zon1 x (j + 1) = zon1 x j := by
      show zon1 x j + x / 2 ^ j % 2 = _
      rw [Nat.div_eq_of_lt hx]
      rfl
    have hm : y % 2 ^ (j + 1) = y % 2 ^ j + 2 ^ j * (y / 2 ^ j % 2) := by rw [hp, Nat.mod_mul]
    have hl := Nat.mod_lt y (Nat.two_pow_pos j)
    rw [z1, z0, hm]
    have h01 : y / 2 ^ j % 2 = 0 ∨ y / 2 ^ j % 2 = 1 := by omega
    rcases h01 with q | q
    · rw [q, Nat.mul_zero, Nat.add_zero]
      constructor
      · rintro (⟨h1, h2, h3⟩ | ⟨h1, h2, h3⟩)
        · omega
        · exact ⟨h1, h2, by omega⟩
      · rintro ⟨h1, h2, h3⟩
        exact Or.inr ⟨h1, h2, by omega⟩
    · rw [q, Nat.mul_one]
      constructor
      · rintro (⟨h1, h2, h3⟩ | ⟨h1, h2, h3⟩)
        · exact ⟨h1, by omega, by omega⟩
        · omega
      · rintro ⟨h1, h2, h3⟩
        exact Or.inl ⟨h1, by omega, by omega⟩
theorem zlm_pw : ∀ (c j n x : Nat), x < 2 ^ j → (zlm c j n x).Pairwise zlt
  | c, j, 0, x, hx => by
    rw [zlm_0]
    exact List.pairwise_singleton _ _
  | 0, j, n + 1, x, hx => List.Pairwise.nil
  | c + 1, j, n + 1, x, hx => by
    have hp : 2 ^ (j + 1) = 2 ^ j * 2 := Nat.pow_succ 2 j
    show (zlm c (j + 1) n (x + 2 ^ j) ++ zlm c (j + 1) (n + 1) x).Pairwise zlt
    refine List.pairwise_append.mpr ⟨zlm_pw c (j + 1) n _ (by omega), zlm_pw c (j + 1) (n + 1) x (by omega), fun a ha b hb => ?_⟩
    obtain ⟨-, a1, -⟩ := (zlm_mem c (j + 1) n (x + 2 ^ j) (by omega) a).mp ha
    obtain ⟨-, b1, -⟩ := (zlm_mem c (j + 1) (n + 1) x (by omega) b).mp hb
    have ta : ∀ i, i < j + 1 → a.testBit i = (x + 2 ^ j).testBit i := fun i hi => by
      rw [← a1, Nat.testBit_mod_two_pow]
      simp [hi]
    have tb : ∀ i, i < j + 1 → b.testBit i = x.testBit i := fun i hi => by
      rw [← b1, Nat.testBit_mod_two_pow]
      simp [hi]
    have low : ∀ i, i < j → (x + 2 ^ j).testBit i = x.testBit i := fun i hi => by
      rw [Nat.add_comm, Nat.testBit_two_pow_add_gt hi]
    refine ⟨j, ?_, ?_, fun i hi => ?_⟩
    · rw [ta j (by omega), Nat.add_comm, Nat.testBit_two_pow_add_eq, Nat.testBit_lt_two_pow hx]
      rfl
    · rw [tb j (by omega)]
      exact Nat.testBit_lt_two_pow hx
    · rw [ta i (by omega), tb i (by omega), low i hi]
/-- sets of places, by the numbers -/
theorem zcx_mem : ∀ (n k y : Nat), y ∈ zcx n k ↔ y < 2 ^ n ∧ zon1 y n = k
  | 0, 0, y => by
    show y ∈ [0] ↔ y < 1 ∧ 0 = 0
    rw [List.mem_singleton]
    omega
  | 0, k + 1, y => by
    show y ∈ ([] : List Nat) ↔ y < 1 ∧ 0 = k + 1
    simp
  | n + 1, 0, y => by
    show y ∈ [0] ↔ _
    rw [List.mem_singleton]
    constructor
    · rintro rfl
      refine ⟨Nat.two_pow_pos _, ?_⟩
      have : ∀ k, zon1 0 k = 0 := fun k => by
        induction k with
        | zero => rfl
        | succ k ih =>
          show zon1 0 k + 0 / 2 ^ k % 2 = 0
          rw [ih, Nat.zero_div]
      exact this _
    · rintro ⟨h1, h2⟩
      have h3 : zon1 y (0 + (n + 1)) = zon1 y 0 := by
        rw [Nat.zero_add]
        exact h2
      have := zon1_eq (s := y) (j := 0) (n + 1) h3
      rw [Nat.zero_add, Nat.mod_eq_of_lt h1, Nat.pow_zero, Nat.mod_one] at this
      exact this
  | n + 1, k + 1, y => by
    have hp : 2 ^ (n + 1) = 2 ^ n * 2 := Nat.pow_succ 2 n
    show y ∈ zcx n (k + 1) ++ (zcx n k).map (fun x => x + 2 ^ n) ↔ _
    rw [List.mem_append, zcx_mem n (k + 1), List.mem_map]
    have zs : zon1 y (n + 1) = zon1 y n + y / 2 ^ n % 2 := rfl
    by_cases c : y < 2 ^ n
    · rw [zs, Nat.div_eq_of_lt c]
      constructor
      · rintro (h | ⟨u, hu, e⟩)
        · exact ⟨by omega, by omega⟩
        · omega
      · rintro ⟨h1, h2⟩
        exact Or.inl ⟨c, by omega⟩
    · constructor
      · rintro (h | ⟨u, hu, e⟩)
        · omega
        · obtain ⟨u1, u2⟩ := (zcx_mem n k u).mp hu
          refine ⟨by omega, ?_⟩
          rw [zs, ← e, zon1_lo (t := u) n (by rw [Nat.add_mod_right]), Nat.add_div_right _ (Nat.two_pow_pos n), Nat.div_eq_of_lt u1, u2]
      · rintro ⟨h1, h2⟩
        refine Or.inr ⟨y - 2 ^ n, (zcx_mem n k _).mpr ⟨by omega, ?_⟩, by omega⟩
        have hy : y = (y - 2 ^ n) + 2 ^ n := by omega
        have hd : y / 2 ^ n = 1 := by
          rw [hy, Nat.add_div_right _ (Nat.two_pow_pos n), Nat.div_eq_of_lt (by omega)]
        have hz : zon1 (y - 2 ^ n) n = zon1 y n := zon1_lo n (by
          conv => rhs; rw [hy]
          rw [Nat.add_mod_right])
        rw [zs, hd] at h2
        omega
theorem zcx_ext : ∀ (c n k : Nat), ∃ t, zcx (n + c) k = zcx n k ++ t ∧ ∀ x ∈ t, 2 ^ n ≤ x
  | 0, n, k => ⟨[], (List.append_nil _).symm, fun x hx => by cases hx⟩
  | c + 1, n, k => by
    cases k with
    | zero =>
      refine ⟨[], ?_, fun x hx => by cases hx⟩
      rw [List.append_nil]
      have : ∀ m, zcx m 0 = [0] := fun m => by cases m <;> rfl
      rw [this, this]
    | succ k =>
      obtain ⟨t, h1, h2⟩ := zcx_ext c n (k + 1)
      refine ⟨t ++ (zcx (n + c) k).map (fun x => x + 2 ^ (n + c)), ?_, fun x hx => ?_⟩
      · show zcx (n + c) (k + 1) ++ (zcx (n + c) k).map (fun x => x + 2 ^ (n + c)) = _
        rw [h1, List.append_assoc]
      · rcases List.mem_append.mp hx with h | h
        · exact h2 x h
        · obtain ⟨u, -, rfl⟩ := List.mem_map.mp h
          have : 2 ^ n ≤ 2 ^ (n + c) := Nat.pow_le_pow_right (by omega) (by omega)
          omega
/-- the best of a row -/
def zbf (T : Nat → Nat → Bool) : List Nat → Nat → Nat
  | [], b => b
  | x :: t, b => zbf T t (if T x b = true then x else b)
theorem zbs_f {n : Nat} {T : Nat → Nat → Bool} : ∀ (L R : List Nat) (b : Nat), (∀ x ∈ L, x < 2 ^ n) → (∀ x ∈ R, 2 ^ n ≤ x) → zbs n T (L ++ R) b = zbf T L b
  | [], R, b, _, h2 => by
    cases R with
    | nil => rfl
    | cons x R =>
      have := h2 x List.mem_cons_self
      have h3 := Nat.two_pow_pos n
      show (if 2 ^ n - 1 < x then b else _) = b
      rw [if_pos (by omega)]
  | x :: L, R, b, h1, h2 => by
    have := h1 x List.mem_cons_self
    show (if 2 ^ n - 1 < x then b else zbs n T (L ++ R) (if T x b = true then x else b)) = zbf T L (if T x b = true then x else b)
    rw [if_neg (by omega)]
    exact zbs_f L R _ (fun y hy => h1 y (List.mem_cons_of_mem _ hy)) h2
/-- what is best: none, or the least that fits -/
def zbt1 (Pd : Nat → Bool) (L : List Nat) (r : Nat) : Prop := (r = 0 ∧ ∀ x ∈ L, Pd x = false) ∨ (r ∈ L ∧ Pd r = true ∧ ∀ x ∈ L, Pd x = true → x = r ∨ zlt r x)
theorem zbf_1 {Pd : Nat → Bool} : ∀ (L : List Nat) (D : List Nat) (b : Nat), (∀ x ∈ L, 0 < x ∧ x < 2 ^ 16) → (∀ x ∈ D, 0 < x ∧ x < 2 ^ 16) → zbt1 Pd D b → zbt1 Pd (D ++ L) (zbf (fun x b => Pd x && (b == 0 || zls (nI x) (nI b))) L b)
  | [], D, b, _, _, h => by
    rw [List.append_nil]
    exact h
  | x :: L, D, b, hL, hD, h => by
    have hx := hL x List.mem_cons_self
    show zbt1 Pd (D ++ x :: L) (zbf _ L (if (Pd x && (b == 0 || zls (nI x) (nI b))) = true then x else b))
    rw [show D ++ x :: L = (D ++ [x]) ++ L by simp]
    refine zbf_1 L (D ++ [x]) _ (fun y hy => hL y (List.mem_cons_of_mem _ hy)) (fun y hy => ?_) ?_
    · rcases List.mem_append.mp hy with q | q
      · exact hD y q
      · rw [List.mem_singleton.mp q]
        exact hx
    · by_cases cp : Pd x = true
      · rcases h with ⟨rfl, h2⟩ | ⟨h1, h2, h3⟩
        · rw [if_pos (by rw [cp]; rfl)]
          refine Or.inr ⟨List.mem_append_right _ (List.mem_singleton.mpr rfl), cp, fun y hy hpy => ?_⟩
          rcases List.mem_append.mp hy with q | q
          · rw [h2 y q] at hpy
            cases hpy
          · exact Or.inl (List.mem_singleton.mp q)
        · have hb := hD b h1
          have hb0 : (b == 0) = false := beq_eq_false_iff_ne.mpr (by omega)
          by_cases cz : zlt x b
          · rw [if_pos (by rw [cp, (zls_iff hx.2 hb.2).mpr cz, Bool.or_true]; rfl)]
            refine Or.inr ⟨List.mem_append_right _ (List.mem_singleton.mpr rfl), cp, fun y hy hpy => ?_⟩
            rcases List.mem_append.mp hy with q | q
            · rcases h3 y q hpy with e | e
              · rw [e]
                exact Or.inr cz
              · exact Or.inr (zlt_tr cz e)
            · exact Or.inl (List.mem_singleton.mp q)
          · have cz' : zls (nI x) (nI b) = false := by
              cases e : zls (nI x) (nI b) with
              | false => rfl
              | true => exact absurd ((zls_iff hx.2 hb.2).mp e) cz
            rw [if_neg (by rw [hb0, cz', cp]; decide)]
            refine Or.inr ⟨List.mem_append_left _ h1, h2, fun y hy hpy => ?_⟩
            rcases List.mem_append.mp hy with q | q
            · exact h3 y q hpy
            · rw [List.mem_singleton.mp q]
              by_cases e : x = b
              · exact Or.inl e
              · exact Or.inr ((zlt_tot 16 x b hx.2 hb.2 e).resolve_left cz)
      · have cp' : Pd x = false := by simpa using cp
        rw [if_neg (by rw [cp']; simp)]
        rcases h with ⟨h1, h2⟩ | ⟨h1, h2, h3⟩
        · refine Or.inl ⟨h1, fun y hy => ?_⟩
          rcases List.mem_append.mp hy with q | q
          · exact h2 y q
          · rw [List.mem_singleton.mp q]
            exact cp'
        · refine Or.inr ⟨List.mem_append_left _ h1, h2, fun y hy hpy => ?_⟩
          rcases List.mem_append.mp hy with q | q
          · exact h3 y q hpy
          · rw [List.mem_singleton.mp q, cp'] at hpy
            cases hpy
/-- the first one that fits, of a row by the places -/
theorem zfd_1 {Pd : Nat → Bool} : ∀ L : List Nat, L.Pairwise zlt → zbt1 Pd L ((L.find? Pd).getD 0)
  | [], _ => Or.inl ⟨rfl, fun x hx => by cases hx⟩
  | x :: L, h => by
    obtain ⟨h1, h2⟩ := List.pairwise_cons.mp h
    by_cases c : Pd x = true
    · rw [List.find?_cons_of_pos c]
      refine Or.inr ⟨List.mem_cons_self, c, fun y hy _ => ?_⟩
      rcases List.mem_cons.mp hy with q | q
      · exact Or.inl q
      · exact Or.inr (h1 y q)
    · rw [List.find?_cons_of_neg (by simpa using c)]
      have c' : Pd x = false := by simpa using c
      rcases zfd_1 L h2 with ⟨a, b⟩ | ⟨a, b, d⟩
      · exact Or.inl ⟨a, fun y hy => by
          rcases List.mem_cons.mp hy with q | q
          · rw [q]; exact c'
          · exact b y q⟩
      · refine Or.inr ⟨List.mem_cons_of_mem _ a, b, fun y hy hpy => ?_⟩
        rcases List.mem_cons.mp hy with q | q
        · rw [q, c'] at hpy
          cases hpy
        · exact d y q hpy
theorem zbt1_u {Pd : Nat → Bool} {L L' : List Nat} {r r' : Nat} (h : zbt1 Pd L r) (h' : zbt1 Pd L' r') (he : ∀ x, x ∈ L ↔ x ∈ L') : r = r' := by
  rcases h with ⟨a, b⟩ | ⟨a, b, d⟩
  · rcases h' with ⟨a', b'⟩ | ⟨a', b', d'⟩
    · omega
    · have := b r' ((he r').mpr a')
      rw [this] at b'
      cases b'
  · rcases h' with ⟨a', b'⟩ | ⟨a', b', d'⟩
    · have := b' r ((he r).mp a)
      rw [this] at b
      cases b
    · rcases d r' ((he r').mpr a') b' with e | e
      · exact e.symm
      · rcases d' r ((he r).mp a) b with e' | e'
        · exact e'
        · exact absurd e' (fun z => zlt_as e z)
theorem zon1_0 : ∀ k : Nat, zon1 0 k = 0
  | 0 => rfl
  | k + 1 => by
    show zon1 0 k + 0 / 2 ^ k % 2 = 0
    rw [zon1_0 k, Nat.zero_div]
/-- both find the same: the best of the model's row, from none on -/
theorem zbs_find {Pd : Nat → Bool} {n s : Nat} (hn : n ≤ 16) (hs : 1 ≤ s) : zbs n (fun x b => Pd x && (b == 0 || zls (nI x) (nI b))) (zcx 17 s) 0 = ((zlm n 0 s 0).find? Pd).getD 0 := by
  obtain ⟨t, h1, h2⟩ := zcx_ext (17 - n) n s
  rw [show n + (17 - n) = 17 by omega] at h1
  rw [h1, zbs_f _ _ _ (fun x hx => ((zcx_mem n s x).mp hx).1) h2]
  have hpos : ∀ x ∈ zcx n s, 0 < x ∧ x < 2 ^ 16 := fun x hx => by
    obtain ⟨a, b⟩ := (zcx_mem n s x).mp hx
    refine ⟨Nat.pos_of_ne_zero (fun z => ?_), Nat.lt_of_lt_of_le a (Nat.pow_le_pow_right (by omega) hn)⟩
    rw [z, zon1_0] at b
    omega
  have e1 := zbf_1 (Pd := Pd) (zcx n s) [] 0 hpos (fun x hx => by cases hx) (Or.inl ⟨rfl, fun x hx => by cases hx⟩)
  rw [List.nil_append] at e1
  refine zbt1_u e1 (zfd_1 _ (zlm_pw n 0 s 0 (by decide))) (fun x => ?_)
  rw [zcx_mem, zlm_mem n 0 s 0 (by decide), Nat.zero_add, Nat.pow_zero, Nat.mod_one]
  show _ ↔ x < 2 ^ n ∧ 0 = 0 ∧ zon1 x n = 0 + s
  rw [Nat.zero_add]
  exact ⟨fun h => ⟨h.1, rfl, h.2⟩, fun h => ⟨h.1, h.2.2⟩⟩
/-- the least set, by more and more places, as the class looks for it -/
def zlf (Pd : Nat → Bool) (n most : Nat) (kf : Bool) : Nat → Nat → Nat
  | 0, _ => 0
  | f + 1, s => if most < s ∨ kf = false then 0 else match (zlm n 0 s 0).find? Pd with
    | some y => y
    | none => zlf Pd n most kf f (s + 1)
theorem zlo_f {Pd : Nat → Bool} {n most : Nat} {kf : Bool} (hn : n ≤ 16) : ∀ (f s : Nat), 1 ≤ s → zlo n (fun x b => Pd x && (b == 0 || zls (nI x) (nI b))) kf most f s 0 = zlf Pd n most kf f s
  | 0, s, _ => rfl
  | f + 1, s, hs => by
    show (if most < s then 0 else if ¬ (0 : Nat) = 0 then 0 else if kf = false then 0 else zlo n _ kf most f (s + 1) (zbs n _ (zcx 17 s) 0)) = (if most < s ∨ kf = false then 0 else _)
    by_cases c1 : most < s
    · rw [if_pos c1, if_pos (Or.inl c1)]
    · rw [if_neg c1, if_neg (not_not_intro rfl)]
      by_cases c2 : kf = false
      · rw [if_pos c2, if_pos (Or.inr c2)]
      · rw [if_neg c2, if_neg (fun z => z.elim c1 c2), zbs_find hn hs]
        cases h : (zlm n 0 s 0).find? Pd with
        | none => exact zlo_f hn f (s + 1) (by omega)
        | some y =>
          have hy := List.mem_of_find?_eq_some h
          have h3 := ((zlm_mem n 0 s 0 (by decide) y).mp hy).2.2
          have hy0 : ¬ y = 0 := fun z => by
            rw [z, zon1_0] at h3
            have : zon1 0 0 = 0 := rfl
            omega
          show zlo n _ kf most f (s + 1) y = y
          cases f with
          | zero => rfl
          | succ f =>
            show (if most < s + 1 then y else if ¬ y = 0 then y else _) = y
            by_cases c3 : most < s + 1
            · rw [if_pos c3]
            · rw [if_neg c3, if_pos hy0]
