set_option maxRecDepth 100000
/-- whether two parts are made alike, in the first i of what they are made of -/
def zsm1 (fa : Nat → Nat → Int32) (k n : Nat) : Nat → Bool
  | 0 => true
  | i + 1 => zsm1 fa k n i && (fa 16 (k - i) == fa 16 (n - i) && (fa 17 (k - i) == fa 17 (n - i) && fa 18 (k - i) == fa 18 (n - i)))
def zsm (fa : Nat → Nat → Int32) (k n : Nat) : Bool := (fa 19 k == fa 19 n) && zsm1 fa k n (zsz fa k)
/-- whether there is a part at place k, behind those that are put -/
def zlvp (np : Nat → Nat) (k : Nat) : Bool := decide (k % 24 < np (k / 24))
/-- whether none of the first n is the same -/
def zpo (fa : Nat → Nat → Int32) (np : Nat → Nat) (k : Nat) : Nat → Bool
  | 0 => true
  | n + 1 => zpo fa np k n && (!zlvp np n || !zsm fa (192 + k) (192 + n))
def zpN (fa : Nat → Nat → Int32) (np : Nat → Nat) (k : Nat) : Bool := zlvp np k && zpo fa np k k
def zpC (fa : Nat → Nat → Int32) (np : Nat → Nat) : Nat → Int32
  | 0 => 0
  | k + 1 => zpC fa np k + zbI (zpN fa np k)
section SAM
variable {X : zX} {d : Nat} {g : zG} {K : Option Value → zG → Prop} {KX : String → zG → Prop} {m : Nat} {fi : Nat → Int32} {ad : Nat → Nat} {fa : Nat → Nat → Int32}
theorem zsm1_s (fa : Nat → Nat → Int32) (k n i : Nat) : zsm1 fa k n (i + 1) = (zsm1 fa k n i && (fa 16 (k - i) == fa 16 (n - i) && (fa 17 (k - i) == fa 17 (n - i) && fa 18 (k - i) == fa 18 (n - i)))) := rfl
theorem zsm1_f {fa : Nat → Nat → Int32} {k n i : Nat} (h : zsm1 fa k n i = false) : ∀ c : Nat, zsm1 fa k n (i + c) = false
  | 0 => h
  | c + 1 => by
    rw [← Nat.add_assoc, zsm1_s, zsm1_f h c, Bool.false_and]
theorem mp_areSame_l (hM : zMd g m fi ad fa) {k n s : Nat} (hk : k < 336) (hn : n < 336) (hs : fa 19 k = nI s) (hsk : s ≤ k + 1) {E : zM} (C : zC X d E RX3 cX3_areSame 5 (some .boolean) "areSame") (hQ : zQ X E K KX) {b : Bool} (hb : b = true → s ≤ n + 1) (hK : K (some (.int (zbI (b && zsm1 fa k n s)))) g) : ∀ (c i : Nat), s = i + c → GW X E 5 g 24 [(0, .ref m), (1, .int (nI k)), (2, .int (nI n)), (3, .int (zbI (b && zsm1 fa k n i))), (4, .int (nI i))] []
  | 0, i, hc => by
    have : s = i := by omega
    subst this
    refine bX3_areSame_24 C hQ g m _ _ _ _ ⟨_, _, hM.1, rfl, _, _, hM.2 19 (by decide), (zin 336 rfl (by omega) (by omega)), fun v hv => ?_⟩
    rw [nI_clamp (by omega), hs] at hv
    subst hv
    exact ⟨fun _ => ⟨zbI_b _, hK⟩, fun z => absurd (nI_le (Nat.le_refl _) (by omega)) z⟩
  | c + 1, i, hc => by
    refine bX3_areSame_24 C hQ g m _ _ _ _ ⟨_, _, hM.1, rfl, _, _, hM.2 19 (by decide), (zin 336 rfl (by omega) (by omega)), fun v hv => ?_⟩
    rw [nI_clamp (by omega), hs] at hv
    subst hv
    refine ⟨fun z => absurd z (nI_ge (by omega) (by omega)), fun _ => ⟨fun z => ?_, fun z => ?_⟩⟩
    · refine ⟨zbI_b _, ?_⟩
      have hf := zbI_0.mp z
      have : (b && zsm1 fa k n s) = (b && zsm1 fa k n i) := by
        cases b with
        | false => rfl
        | true =>
          rw [Bool.true_and] at hf
          rw [hc, Bool.true_and, Bool.true_and, zsm1_f hf, hf]
      rw [this] at hK
      exact hK
    · have ht : b = true ∧ zsm1 fa k n i = true := by
        cases hbb : (b && zsm1 fa k n i) with
        | true => exact (Bool.and_eq_true _ _).mp hbb
        | false =>
          rw [hbb] at z
          exact absurd rfl z
      have ih := mp_areSame_l hM hk hn hs hsk C hQ hb hK c (i + 1) (by omega)
      rw [zsm1_s, ht.1, ht.2, Bool.true_and, Bool.true_and] at ih
      have hin := hb ht.1
      rw [pk_sub (by omega), pk_sub (by omega), ← nI_succ]
      have ck : (nI (k - i)).toNatClampNeg = k - i := nI_clamp (by omega)
      have cn : (nI (n - i)).toNatClampNeg = n - i := nI_clamp (by omega)
      refine ⟨_, _, hM.1, rfl, _, _, hM.2 16 (by decide), (zin 336 rfl (by omega) (by omega)), fun v1 h1 => ⟨_, _, hM.1, rfl, _, _, hM.2 16 (by decide), (zin 336 rfl (by omega) (by omega)), fun v2 h2 => ?_⟩⟩
      rw [ck] at h1
      rw [cn] at h2
      subst h1 h2
      refine ⟨fun z1 => ?_, fun z1 => ⟨_, _, hM.1, rfl, _, _, hM.2 17 (by decide), (zin 336 rfl (by omega) (by omega)), fun v1 h1 => ⟨_, _, hM.1, rfl, _, _, hM.2 17 (by decide), (zin 336 rfl (by omega) (by omega)), fun v2 h2 => ?_⟩⟩⟩
      · rw [show (fa 16 (k - i) == fa 16 (n - i)) = false by simpa using z1, Bool.false_and] at ih
        exact ih
      · rw [ck] at h1
        rw [cn] at h2
        subst h1 h2
        rw [show (fa 16 (k - i) == fa 16 (n - i)) = true by simpa using z1, Bool.true_and] at ih
        refine ⟨fun z2 => ?_, fun z2 => ⟨_, _, hM.1, rfl, _, _, hM.2 18 (by decide), (zin 336 rfl (by omega) (by omega)), fun v1 h1 => ⟨_, _, hM.1, rfl, _, _, hM.2 18 (by decide), (zin 336 rfl (by omega) (by omega)), fun v2 h2 => ?_⟩⟩⟩
        · rw [show (fa 17 (k - i) == fa 17 (n - i)) = false by simpa using z2, Bool.false_and] at ih
          exact ih
        · rw [ck] at h1
          rw [cn] at h2
          subst h1 h2
          rw [show (fa 17 (k - i) == fa 17 (n - i)) = true by simpa using z2, Bool.true_and] at ih
          refine ⟨fun z3 => ?_, fun z3 => ?_⟩
          · rw [show (fa 18 (k - i) == fa 18 (n - i)) = false by simpa using z3] at ih
            exact ih
          · rw [show (fa 18 (k - i) == fa 18 (n - i)) = true by simpa using z3] at ih
            exact ih
theorem mp_areSame (hok : zOk X) (hM : zMd g m fi ad fa) {k n s t : Nat} (hk : k < 336) (hn : n < 336) (hs : fa 19 k = nI s) (ht : fa 19 n = nI t) (hsk : s ≤ k + 1) (htn : t ≤ n + 1) (hK : K (some (.int (zbI (zsm fa k n)))) g) : zCal X d yX3_areSame wX3_areSame [.ref m, .int (nI k), .int (nI n)] g K KX := by
  have hz : zsz fa k = s := by
    unfold zsz
    rw [hs, nI_clamp (by omega)]
  unfold zsm at hK
  rw [hz] at hK
  refine mX3_areSame hok m _ _ (fun E C hQ => ⟨_, _, hM.1, rfl, _, _, hM.2 19 (by decide), (zin 336 rfl (by omega) (by omega)), fun v1 h1 => ⟨_, _, hM.1, rfl, _, _, hM.2 19 (by decide), (zin 336 rfl (by omega) (by omega)), fun v2 h2 => ?_⟩⟩)
  rw [nI_clamp (by omega)] at h1 h2
  subst h1 h2
  have := mp_areSame_l (b := fa 19 k == fa 19 n) hM hk hn hs hsk C hQ (fun q => ?_) hK s 0 (Nat.zero_add _).symm
  · have e : (fa 19 k == fa 19 n && zsm1 fa k n 0) = (fa 19 k == fa 19 n) := Bool.and_true _
    rw [e, nI_0] at this
    refine ⟨fun z => ?_, fun z => ?_⟩
    · rw [show (fa 19 k == fa 19 n) = false by simpa using z] at this
      exact this
    · rw [show (fa 19 k == fa 19 n) = true by simpa using z] at this
      exact this
  · have : fa 19 k = fa 19 n := by simpa using q
    rw [hs, ht] at this
    have := (nI_eq (by omega) (by omega)).mp this
    omega
theorem zpo_s (fa : Nat → Nat → Int32) (np : Nat → Nat) (k n : Nat) : zpo fa np k (n + 1) = (zpo fa np k n && (!zlvp np n || !zsm fa (192 + k) (192 + n))) := rfl
theorem zpo_f {fa : Nat → Nat → Int32} {np : Nat → Nat} {k i : Nat} (h : zpo fa np k i = false) : ∀ c : Nat, zpo fa np k (i + c) = false
  | 0 => h
  | c + 1 => by
    rw [← Nat.add_assoc, zpo_s, zpo_f h c, Bool.false_and]
theorem zMo.sz {fi : Nat → Int32} {fa : Nat → Nat → Int32} {M : Nat} {np : Nat → Nat} (h : zMo fi fa M np) {k : Nat} (hk : k < 24 * M) (hl : zlvp np k = true) : ∃ s : Nat, fa 19 (192 + k) = nI s ∧ s ≤ k % 24 + 1 := by
  obtain ⟨h1, h2, h3⟩ := h
  have hd : k / 24 < M := Nat.div_lt_of_lt_mul hk
  obtain ⟨q1, q2, q3, q4⟩ := h3 (k / 24) hd
  have hm : k % 24 < np (k / 24) := of_decide_eq_true hl
  obtain ⟨w, w1, w2, w3, w4, -⟩ := q3 (k % 24) hm
  have e : 192 + 24 * (k / 24) + k % 24 = 192 + k := by
    have := Nat.div_add_mod k 24
    omega
  rw [e] at w3 w4
  exact ⟨_, w3, w4⟩
theorem mp_parts_n (hok : zOk X) (hM : zMd g m fi ad fa) {M k : Nat} {np : Nat → Nat} (hM0 : zMo fi fa M np) (hk : k < 24 * M) (hlk : zlvp np k = true) {E : zM} (C : zC X (d + 1) E RX3 cX3_parts 5 (some .int) "parts") (hQ : zQ X E K KX) {x1 : Int32}
    (hK : GW X E 5 g 4 [(0, .ref m), (1, .int (x1 + zbI (zpo fa np k k))), (2, .int (nI (k + 1)))] []) : ∀ (c n : Nat), k = n + c → GW X E 5 g 40 [(0, .ref m), (1, .int x1), (2, .int (nI k)), (3, .int (zbI (zpo fa np k n))), (4, .int (nI n))] []
  | 0, n, hc => by
    have : k = n := by omega
    subst this
    have hM6 := hM0.1
    refine bX3_parts_40 (d := d) C hQ g m _ _ _ _ ⟨fun _ => ?_, fun z => absurd (nI_le (Nat.le_refl _) (by omega)) z⟩
    rw [← nI_succ]
    refine ⟨fun z => ?_, fun z => ?_⟩
    · rw [zbI_0.mp z] at hK
      exact hK
    · rw [show zpo fa np k k = true by simpa [zbI_0] using z] at hK
      exact hK
  | c + 1, n, hc => by
    have hM6 := hM0.1
    refine bX3_parts_40 (d := d) C hQ g m _ _ _ _ ⟨fun z => absurd z (nI_ge (by omega) (by omega)), fun _ => ⟨fun z => ?_, fun z => ?_⟩⟩
    · have hf := zbI_0.mp z
      have hkk : zpo fa np k k = false := by
        have := zpo_f hf (c + 1)
        rw [← hc] at this
        exact this
      rw [hkk] at hK
      rw [← nI_succ]
      exact ⟨fun _ => hK, fun w => absurd z w⟩
    · have ht : zpo fa np k n = true := by simpa [zbI_0] using z
      have ih := mp_parts_n hok hM hM0 hk hlk C hQ hK c (n + 1) (by omega)
      rw [zpo_s, ht, Bool.true_and] at ih
      have hdn : n / 24 < M := Nat.div_lt_of_lt_mul (by omega)
      rw [show (24 : Int32) = nI 24 from rfl, pk_rem (by omega) (by decide) (by decide), pk_div (by omega) (by decide) (by decide)]
      refine ⟨_, _, hM.1, rfl, _, _, hM.2 23 (by decide), (zin 6 rfl (by omega) (by omega)), fun v hv => ?_⟩
      rw [nI_clamp (by omega), (hM0.2.2 _ hdn).2.2.2] at hv
      subst hv
      have hnp := (hM0.2.2 _ hdn).1
      rw [← nI_succ]
      refine ⟨fun w => ?_, fun w => ⟨hM.is, ?_⟩⟩
      · have h1 := (nI_leI (by omega) (by omega)).mp w
        rw [show zlvp np n = false by unfold zlvp; exact decide_eq_false (by omega)] at ih
        exact ih
      · have h1 := mt (nI_leI (by omega) (by omega)).mpr w
        have hln : zlvp np n = true := by
          unfold zlvp
          exact decide_eq_true (by omega)
        rw [hln, Bool.not_true, Bool.false_or] at ih
        obtain ⟨s, s1, s2⟩ := hM0.sz hk hlk
        obtain ⟨t, t1, t2⟩ := hM0.sz (by omega) hln
        have hmk := Nat.mod_le k 24
        have hmn := Nat.mod_le n 24
        rw [show (192 : Int32) = nI 192 from rfl, nI_add, nI_add]
        refine mp_areSame hok hM (by omega) (by omega) s1 t1 (by omega) (by omega) ⟨_, rfl, zbI_b _, fun w2 => ?_, fun w2 => ?_⟩
        · rw [show zsm fa (192 + k) (192 + n) = true by simpa [zbI_0] using w2] at ih
          exact ih
        · rw [zbI_0.mp w2] at ih
          exact ih
theorem mp_parts_l (hok : zOk X) (hM : zMd g m fi ad fa) {M : Nat} {np : Nat → Nat} (hM0 : zMo fi fa M np) {E : zM} (C : zC X (d + 1) E RX3 cX3_parts 5 (some .int) "parts") (hQ : zQ X E K KX)
    (hK : ∀ g' : zG, zMd g' m (va_up fi 34 0) ad fa → zNm g g' → K (some (.int (zpC fa np (24 * M)))) g') : ∀ (c k : Nat), 24 * M = k + c → GW X E 5 g 4 [(0, .ref m), (1, .int (zpC fa np k)), (2, .int (nI k))] []
  | 0, k, hc => by
    have : k = 24 * M := by omega
    subst this
    have hM6 := hM0.1
    refine bX3_parts_4 (d := d) C hQ g m _ _ ⟨_, _, hM.1, rfl, ?_⟩
    rw [hM0.2.1, show (24 : Int32) = nI 24 from rfl, pk_mul]
    exact ⟨fun _ => ⟨hM.is, mp_tells hok hM (fun g2 a1 a2 => ⟨_, rfl, hK g2 a1 a2⟩)⟩, fun z => absurd (nI_le (Nat.le_refl _) (by omega)) z⟩
  | c + 1, k, hc => by
    have hM6 := hM0.1
    have ih := mp_parts_l hok hM hM0 C hQ hK c (k + 1) (by omega)
    have hs : zpC fa np (k + 1) = zpC fa np k + zbI (zpN fa np k) := rfl
    have hd : k / 24 < M := Nat.div_lt_of_lt_mul (by omega)
    refine bX3_parts_4 (d := d) C hQ g m _ _ ⟨_, _, hM.1, rfl, ?_⟩
    rw [hM0.2.1, show (24 : Int32) = nI 24 from rfl, pk_mul, pk_rem (by omega) (by decide) (by decide), pk_div (by omega) (by decide) (by decide)]
    refine ⟨fun z => absurd z (nI_ge (by omega) (by omega)), fun _ => ⟨_, _, hM.1, rfl, _, _, hM.2 23 (by decide), (zin 6 rfl (by omega) (by omega)), fun v hv => ?_⟩⟩
    rw [nI_clamp (by omega), (hM0.2.2 _ hd).2.2.2] at hv
    subst hv
    have hnp := (hM0.2.2 _ hd).1
    refine ⟨fun w => ?_, fun w => ?_⟩
    · have h1 := (nI_leI (by omega) (by omega)).mp w
      have hl : zlvp np k = false := by
        unfold zlvp
        exact decide_eq_false (by omega)
      rw [hs, show zpN fa np k = false by unfold zpN; rw [hl, Bool.false_and]] at ih
      refine bX3_parts_40 (d := d) C hQ g m _ _ _ _ ⟨fun _ => ?_, fun _ => ⟨fun _ => ?_, fun z => absurd rfl z⟩⟩
      · rw [← nI_succ]
        exact ⟨fun _ => ih, fun z => absurd rfl z⟩
      · rw [← nI_succ]
        exact ⟨fun _ => ih, fun z => absurd rfl z⟩
    · have h1 := mt (nI_leI (by omega) (by omega)).mpr w
      have hl : zlvp np k = true := by
        unfold zlvp
        exact decide_eq_true (by omega)
      rw [hs, show zpN fa np k = zpo fa np k k by unfold zpN; rw [hl, Bool.true_and]] at ih
      have := mp_parts_n (d := d) hok hM hM0 (by omega) hl C hQ ih k 0 (Nat.zero_add _).symm
      rw [nI_0] at this
      exact this
theorem mp_parts (hok : zOk X) (hM : zMd g m fi ad fa) {M : Nat} {np : Nat → Nat} (hM0 : zMo fi fa M np)
    (hK : ∀ g' : zG, zMd g' m (va_up fi 34 0) ad fa → zNm g g' → K (some (.int (zpC fa np (24 * M)))) g') : zCal X (d + 1) yX3_parts wX3_parts [.ref m] g K KX := by
  refine mX3_parts (d := d) hok m (fun E C hQ => ?_)
  have := mp_parts_l (d := d) hok hM hM0 C hQ hK (24 * M) 0 (Nat.zero_add _).symm
  rw [nI_0] at this
  exact this
end SAM
