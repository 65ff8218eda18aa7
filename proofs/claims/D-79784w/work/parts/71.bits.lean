set_option maxRecDepth 100000
theorem zb_and (a b : Nat) : nI a &&& nI b = nI (a &&& b) := by
  unfold nI
  apply Int32.toBitVec_inj.mp
  rw [Int32.toBitVec_and]
  show BitVec.ofNat 32 a &&& BitVec.ofNat 32 b = BitVec.ofNat 32 (a &&& b)
  rw [BitVec.ofNat_and]
theorem zsh31 : ∀ k : Nat, k < 31 → ((nI k &&& 31 : Int32).toBitVec.smod 32).toNat = k := by decide +kernel
/-- the bit k of a set -/
def zbt (s k : Nat) : Bool := s / 2 ^ k % 2 == 1
theorem zbt_i {s k : Nat} (hs : s < 2 ^ 31) (hk : k < 31) : (nI s >>> (nI k &&& 31)) &&& 1 = nI (s / 2 ^ k % 2) := by
  rw [pk_shrN hs _ k (zsh31 k hk), pk_andN (m := 1) (Nat.lt_of_le_of_lt (Nat.div_le_self _ _) (by omega)) 1 (by decide)]
theorem zbt_1 {s k : Nat} (hs : s < 2 ^ 31) (hk : k < 31) : ((nI s >>> (nI k &&& 31)) &&& 1 = 1) ↔ zbt s k = true := by
  rw [zbt_i hs hk, show (1 : Int32) = nI 1 from rfl, nI_eq (by omega) (by omega)]
  unfold zbt
  simp
theorem zb_shl {k : Nat} (hk : k ≤ 16) : (1 : Int32) <<< (nI k &&& 31) = nI (2 ^ k) := by
  have h := pk_shlN (n := 1) (nI k &&& 31) k (zsh31 k (by omega)) (by
    rw [Nat.one_mul]
    exact Nat.pow_lt_pow_of_lt (by omega) (by omega))
  rw [Nat.one_mul] at h
  exact h
theorem zb_p16 {k : Nat} (hk : k ≤ 16) : 2 ^ k ≤ 65536 := by
  have := Nat.pow_le_pow_right (n := 2) (by omega) hk
  omega
theorem zb_all {k : Nat} (hk : k ≤ 16) : (1 : Int32) <<< (nI k &&& 31) - 1 = nI (2 ^ k - 1) := by
  rw [zb_shl hk]
  obtain ⟨x, hx⟩ : ∃ x, 2 ^ k = x + 1 := ⟨2 ^ k - 1, by have := Nat.two_pow_pos k; omega⟩
  rw [hx, nI_pred, Nat.add_sub_cancel]
theorem zb_not {n s : Nat} (hn : n ≤ 16) (hs : s < 2 ^ n) : nI (2 ^ n - 1) &&& (nI s ^^^ (-1)) = nI (2 ^ n - (s + 1)) := by
  have h16 := zb_p16 hn
  unfold nI
  apply Int32.toBitVec_inj.mp
  rw [Int32.toBitVec_and, Int32.toBitVec_xor]
  show BitVec.ofNat 32 (2 ^ n - 1) &&& (BitVec.ofNat 32 s ^^^ BitVec.allOnes 32) = BitVec.ofNat 32 (2 ^ n - (s + 1))
  apply BitVec.eq_of_getLsbD_eq
  intro i hi
  rw [BitVec.getLsbD_and, BitVec.getLsbD_xor, BitVec.getLsbD_ofNat, BitVec.getLsbD_ofNat, BitVec.getLsbD_ofNat, BitVec.getLsbD_allOnes, Nat.testBit_two_pow_sub_one, Nat.testBit_two_pow_sub_succ hs]
  simp [hi]
theorem zbt_t (s k : Nat) : zbt s k = s.testBit k := by
  rw [Nat.testBit_eq_decide_div_mod_eq]
  unfold zbt
  by_cases h : s / 2 ^ k % 2 = 1
  · rw [decide_eq_true h]
    exact beq_iff_eq.mpr h
  · rw [decide_eq_false h]
    exact beq_eq_false_iff_ne.mpr h
theorem zbt_n {n s k : Nat} (hs : s < 2 ^ n) (hk : k < n) : zbt (2 ^ n - (s + 1)) k = !zbt s k := by
  rw [zbt_t, zbt_t, Nat.testBit_two_pow_sub_succ hs]
  simp [hk]
/-- those of the first k events of the log that are in a set -/
def zsb (lg : List Nat) (b : Nat → Bool) : Nat → List Nat
  | 0 => []
  | k + 1 => zsb lg b k ++ (if b k = true then [zr lg k] else [])
theorem zsb_len (lg : List Nat) (b : Nat → Bool) : ∀ k : Nat, (zsb lg b k).length ≤ k
  | 0 => Nat.le_refl _
  | k + 1 => by
    have := zsb_len lg b k
    unfold zsb
    rw [List.length_append]
    split
    · rw [List.length_singleton]
      omega
    · rw [List.length_nil]
      omega
theorem zsb_mem {lg : List Nat} {b : Nat → Bool} {v : Nat} : ∀ {k : Nat}, v ∈ zsb lg b k ↔ ∃ j, j < k ∧ b j = true ∧ zr lg j = v
  | 0 => ⟨fun h => absurd h (List.not_mem_nil), fun ⟨j, h, _⟩ => absurd h (Nat.not_lt_zero j)⟩
  | k + 1 => by
    unfold zsb
    rw [List.mem_append, zsb_mem]
    constructor
    · rintro (⟨j, h1, h2, h3⟩ | h)
      · exact ⟨j, by omega, h2, h3⟩
      · by_cases c : b k = true
        · rw [if_pos c, List.mem_singleton] at h
          exact ⟨k, by omega, c, h.symm⟩
        · rw [if_neg c] at h
          exact absurd h (List.not_mem_nil)
    · rintro ⟨j, h1, h2, h3⟩
      by_cases c : j = k
      · subst c
        rw [if_pos h2, List.mem_singleton]
        exact Or.inr h3.symm
      · exact Or.inl ⟨j, by omega, h2, h3⟩
theorem zsb_nd {lg : List Nat} {b : Nat → Bool} (hn : lg.Nodup) : ∀ {k : Nat}, k ≤ lg.length → (zsb lg b k).Nodup
  | 0, _ => List.nodup_nil
  | k + 1, hk => by
    unfold zsb
    rw [List.nodup_append]
    refine ⟨zsb_nd hn (by omega), ?_, fun x hx y hy => ?_⟩
    · split
      · exact List.nodup_cons.mpr ⟨List.not_mem_nil, List.nodup_nil⟩
      · exact List.nodup_nil
    · by_cases c : b k = true
      · rw [if_pos c, List.mem_singleton] at hy
        subst hy
        obtain ⟨j, h1, h2, h3⟩ := zsb_mem.mp hx
        intro e
        rw [← h3] at e
        have := zr_inj hn (by omega) (by omega) e
        omega
      · rw [if_neg c] at hy
        exact absurd hy (List.not_mem_nil)
section BTS
variable {X : zX} {d : Nat} {g : zG} {K : Option Value → zG → Prop} {KX : String → zG → Prop} {m : Nat} {fi : Nat → Int32} {ad : Nat → Nat} {fa : Nat → Nat → Int32} {lg : List Nat}
theorem mp_isFalseWith_l (hok : zOk X) (hL : zLg fi fa lg) (h16 : lg.length ≤ 16) {M : Nat} {np : Nat → Nat} (hM0 : zMo fi fa M np) {i v s : Nat} (hi : i < M) (hs : s < 2 ^ 31) (hv : v ∈ zsb lg (zbt s) lg.length) {E : zM} (C : zC X (d + 5) E RX3 cX3_isFalseWith 5 (some .boolean) "isFalseWith") (hQ : zQ X E K KX)
    (hK : ∀ (g' : zG) (fi' : Nat → Int32) (fa' : Nat → Nat → Int32), zMd g' m fi' ad fa' → zNm g g' → zSc fi fa fi' fa' → K (some (.int (zbI (zAn fi fa i (np i) (zsb lg (zbt s) lg.length) lg.length v == 0)))) g') : ∀ (c k : Nat) (g1 : zG) (fi' : Nat → Int32) (fa' : Nat → Nat → Int32), lg.length = k + c → zMd g1 m fi' ad fa' → zNm g g1 → (∀ j, j ≠ 29 → fi' j = fi j) → (∀ j, j ≠ 30 → fa' j = fa j) → fi' 29 = nI (zsb lg (zbt s) k).length → (∀ j, j < (zsb lg (zbt s) k).length → fa' 30 j = nI (zr (zsb lg (zbt s) k) j)) →
    GW X E 5 g1 8 [(0, .ref m), (1, .int (nI i)), (2, .int (nI v)), (3, .int (nI s)), (4, .int (nI k))] []
  | 0, k, g1, fi', fa', hc, hM, hN, hfi, hfa, h29, h30 => by
    have : lg.length = k := by omega
    obtain ⟨m1, m2, m3⟩ := hM0
    obtain ⟨q1, q2, q3, q4⟩ := m3 i hi
    have h80 := hL.2.1
    have hln := zsb_len lg (zbt s) lg.length
    refine bX3_isFalseWith_8 (d := d + 4) C hQ g1 m _ _ _ _ ⟨_, _, hM.1, rfl, fun _ => ⟨hM.is, mp_idsOf hok hM (n := lg.length) h80 (by rw [hfi 3 (by decide)]; exact hL.1) ⟨_, rfl, _, hM.1, by simp [zMf], fun g2 e2 => ?_⟩⟩, fun z => absurd (show fi' 3 ≤ nI k by rw [hfi 3 (by decide), hL.1]; exact nI_le (by omega) (by omega)) z⟩
    have hM2 := hM.si (j := 31) e2 (by decide)
    have hS2 : zSc fi fa (va_up fi' 31 (zid fa' lg.length)) fa' := ⟨fun j _ h2 h3 => by rw [va_up_ne _ _ h3, hfi j h2], fun j _ h2 _ _ => hfa j h2⟩
    have hL2 : zLn (va_up fi' 31 (zid fa' lg.length)) fa' (zsb lg (zbt s) lg.length) := ⟨by rw [va_up_ne _ _ (by decide), h29, this], by omega, zsb_nd hL.2.2.1 (Nat.le_refl _), fun w hw => by
      obtain ⟨j, a1, a2, a3⟩ := zsb_mem.mp hw
      have := hL.2.2.2.1 _ (zr_mem (R := lg) (k := j) a1)
      omega, fun j hj => by
      have := h30 j (by rw [← this]; exact hj)
      rw [this]
      congr 2
      rw [‹lg.length = k›]⟩
    have hv80 : v < 80 := by
      obtain ⟨j, a1, a2, a3⟩ := zsb_mem.mp hv
      have := hL.2.2.2.1 _ (zr_mem (R := lg) (k := j) a1)
      omega
    refine ⟨hM2.is, mp_finds (d := d) (n := np i) hok hM2 hL2 (by omega) q1 q2 (q3.fa' (fun j a b => hfa j (by omega))) (by rw [hfa 23 (by decide)]; exact q4) (fun g4 fi4 fa4 b1 b2 b3 b4 => ⟨rfl, _, _, b1.1, rfl, _, _, b1.2 33 (by decide), (zin 80 rfl (by omega) (by omega)), fun x hx => ?_⟩)⟩
    have hS4 := hS2.trans b3.sc
    rw [nI_clamp (by omega), b4 v hv, va_up_self, zFd_sc hS2, zid_c (hfa 9 (by decide))] at hx
    subst hx
    have hk := hK g4 fi4 fa4 b1 ((hN.trans (zNm.si e2)).trans b2) hS4
    unfold zAn at hk
    refine ⟨fun z => ?_, fun z => ?_⟩
    · rw [beq_eq_false_iff_ne.mpr z] at hk
      exact hk
    · rw [beq_iff_eq.mpr z] at hk
      exact hk
  | c + 1, k, g1, fi', fa', hc, hM, hN, hfi, hfa, h29, h30 => by
    have h80 := hL.2.1
    have hln := zsb_len lg (zbt s) k
    have hcl : (fi' 29).toNatClampNeg = (zsb lg (zbt s) k).length := by rw [h29, nI_clamp (by omega)]
    refine bX3_isFalseWith_8 (d := d + 4) C hQ g1 m _ _ _ _ ⟨_, _, hM.1, rfl, fun z => absurd z (by rw [hfi 3 (by decide), hL.1]; exact nI_ge (by omega) (by omega)), fun _ => ?_⟩
    rw [zbt_1 hs (by omega), ← nI_succ]
    have hz : zsb lg (zbt s) (k + 1) = zsb lg (zbt s) k ++ (if zbt s k = true then [zr lg k] else []) := rfl
    refine ⟨fun z => ?_, fun z => ⟨_, _, hM.1, rfl, _, _, hM.1, rfl, _, _, hM.1, rfl, _, _, hM.2 12 (by decide), (zin 80 rfl (by omega) (by omega)), fun x hx => ⟨_, _, hM.2 30 (by decide), (by rw [h29]; exact (zin 80 rfl (by omega) (by omega))), fun g2 e2 => ?_⟩⟩⟩
    · rw [if_neg z, List.append_nil] at hz
      exact mp_isFalseWith_l hok hL h16 hM0 hi hs hv C hQ hK c (k + 1) g1 fi' fa' (by omega) hM hN hfi hfa (by rw [hz]; exact h29) (by rw [hz]; exact h30)
    · rw [if_pos z] at hz
      rw [nI_clamp (by omega), hfa 12 (by decide), hL.2.2.2.2 _ (by omega)] at hx
      subst hx
      rw [hcl] at e2
      have hM2 := hM.sa (j := 30) (by decide) e2
      refine ⟨_, _, hM2.1, rfl, _, hM2.1, by simp [zMf], fun g3 e3 => ?_⟩
      have hM3 := hM2.si (j := 29) e3 (by decide)
      refine mp_isFalseWith_l hok hL h16 hM0 hi hs hv C hQ hK c (k + 1) g3 _ _ (by omega) hM3 ((hN.trans (zNm.sa (j := 30) (by decide) e2)).trans (zNm.si e3)) (fun j hj => (va_up_ne _ _ hj).trans (hfi j hj)) (fun j hj => (va_up_ne _ _ hj).trans (hfa j hj)) ?_ (fun j hj => ?_)
      · rw [va_up_self, h29, ← nI_succ, hz, List.length_append, List.length_singleton]
      · rw [hz, List.length_append, List.length_singleton] at hj
        rw [va_up_self, hz]
        by_cases cj : j = (zsb lg (zbt s) k).length
        · rw [cj, pk_us, zr_app]
        · rw [pk_un cj, zr_app_l (by omega)]
          exact h30 j (by omega)
theorem mp_isFalseWith (hok : zOk X) (hM : zMd g m fi ad fa) (hL : zLg fi fa lg) (h16 : lg.length ≤ 16) {M : Nat} {np : Nat → Nat} (hM0 : zMo fi fa M np) {i v s : Nat} (hi : i < M) (hs : s < 2 ^ 31) (hv : v ∈ zsb lg (zbt s) lg.length)
    (hK : ∀ (g' : zG) (fi' : Nat → Int32) (fa' : Nat → Nat → Int32), zMd g' m fi' ad fa' → zNm g g' → zSc fi fa fi' fa' → K (some (.int (zbI (zAn fi fa i (np i) (zsb lg (zbt s) lg.length) lg.length v == 0)))) g') : zCal X (d + 5) yX3_isFalseWith wX3_isFalseWith [.ref m, .int (nI i), .int (nI v), .int (nI s)] g K KX := by
  refine mX3_isFalseWith (d := d + 4) hok m _ _ _ (fun E C hQ => ⟨_, hM.1, by simp [zMf], fun g2 e2 => ?_⟩)
  have hM2 := hM.si (j := 29) e2 (by decide)
  have := mp_isFalseWith_l (d := d) hok hL h16 hM0 hi hs hv C hQ hK lg.length 0 g2 _ fa (Nat.zero_add _).symm hM2 (zNm.si e2) (fun j hj => va_up_ne _ _ hj) (fun _ _ => rfl) (va_up_self _ _ _) (fun j hj => absurd hj (Nat.not_lt_zero j))
  rw [nI_0] at this
  exact this
theorem mp_placeOf_l (hM : zMd g m fi ad fa) (hL : zLg fi fa lg) {p : Nat} (hp : p < lg.length) {E : zM} (C : zC X d E RX3 cX3_placeOf 3 (some .int) "placeOf") (hQ : zQ X E K KX) (hK : K (some (.int (nI p))) g) : ∀ (c k : Nat), p = k + c → GW X E 3 g 2 [(0, .ref m), (1, .int (nI (zr lg p))), (2, .int (nI k))] []
  | 0, k, hc => by
    have : p = k := by omega
    subst this
    have h80 := hL.2.1
    refine bX3_placeOf_2 C hQ g m _ _ ⟨_, _, hM.1, rfl, _, _, hM.2 12 (by decide), (zin 80 rfl (by omega) (by omega)), fun v hv => ?_⟩
    rw [nI_clamp (by omega), hL.2.2.2.2 _ hp] at hv
    exact ⟨fun _ => hK, fun z => absurd hv z⟩
  | c + 1, k, hc => by
    have h80 := hL.2.1
    have h1 := hL.2.2.2.1 _ (zr_mem (R := lg) (k := p) hp)
    have h2 := hL.2.2.2.1 _ (zr_mem (R := lg) (k := k) (by omega))
    refine bX3_placeOf_2 C hQ g m _ _ ⟨_, _, hM.1, rfl, _, _, hM.2 12 (by decide), (zin 80 rfl (by omega) (by omega)), fun v hv => ?_⟩
    rw [nI_clamp (by omega), hL.2.2.2.2 _ (by omega)] at hv
    subst hv
    refine ⟨fun z => ?_, fun _ => ?_⟩
    · have := zr_inj hL.2.2.1 (by omega) hp ((nI_eq (by omega) (by omega)).mp z)
      omega
    · rw [← nI_succ]
      exact mp_placeOf_l hM hL hp C hQ hK c (k + 1) (by omega)
theorem mp_placeOf (hok : zOk X) (hM : zMd g m fi ad fa) (hL : zLg fi fa lg) {v : Nat} (hv : v ∈ lg) (hK : K (some (.int (nI (lg.idxOf v)))) g) : zCal X d yX3_placeOf wX3_placeOf [.ref m, .int (nI v)] g K KX := by
  obtain ⟨h1, h2⟩ := zr_idx hv
  refine mX3_placeOf hok m _ (fun E C hQ => ?_)
  have := mp_placeOf_l hM hL h1 C hQ hK (lg.idxOf v) 0 (Nat.zero_add _).symm
  rw [h2, nI_0] at this
  exact this
/-- how many of the first k bits are set -/
def zon1 (s : Nat) : Nat → Nat
  | 0 => 0
  | k + 1 => zon1 s k + s / 2 ^ k % 2
theorem mp_ones_l {s : Nat} (hs : s < 2 ^ 31) {E : zM} (C : zC X d E RX3 cX3_ones 3 (some .int) "ones") (hQ : zQ X E K KX) (hK : K (some (.int (nI (zon1 s 16)))) g) : ∀ (c k : Nat), 16 = k + c → GW X E 3 g 4 [(0, .int (nI s)), (1, .int (nI (zon1 s k))), (2, .int (nI k))] []
  | 0, k, hc => by
    have : k = 16 := by omega
    subst this
    exact bX3_ones_4 C hQ g _ _ _ ⟨fun _ => hK, fun z => absurd (show (16 : Int32) ≤ nI 16 by decide) z⟩
  | c + 1, k, hc => by
    refine bX3_ones_4 C hQ g _ _ _ ⟨fun z => absurd z (nI_ge (a := k) (b := 16) (by omega) (by omega)), fun _ => ?_⟩
    rw [zbt_i hs (by omega), nI_add, ← nI_succ]
    exact mp_ones_l hs C hQ hK c (k + 1) (by omega)
theorem mp_ones (hok : zOk X) {s : Nat} (hs : s < 2 ^ 31) (hK : K (some (.int (nI (zon1 s 16)))) g) : zCal X d yX3_ones wX3_ones [.int (nI s)] g K KX := by
  refine mX3_ones hok _ (fun E C hQ => ?_)
  have := mp_ones_l hs C hQ hK 16 0 rfl
  rw [nI_0] at this
  exact this
/-- the next set, and whether one goes ahead of another -/
def zns (s : Int32) : Int32 := (((s + (s &&& (-s))) ^^^ s) / (s &&& (-s))) >>> (2 &&& 31) ||| (s + (s &&& (-s)))
def zls (a b : Int32) : Bool := !(((a &&& (a ^^^ b)) &&& (-(a ^^^ b))) == 0)
theorem mp_isLess (hok : zOk X) {a b : Int32} (hK : K (some (.int (zbI (zls a b)))) g) : zCal X d yX3_isLess wX3_isLess [.int a, .int b] g K KX := by
  refine mX3_isLess hok _ _ ⟨fun c => ?_, fun c => ?_⟩
  · rw [show zls a b = false by unfold zls; simp [c]] at hK
    exact hK
  · rw [show zls a b = true by unfold zls; simp [c]] at hK
    exact hK
theorem mp_nextSet (hok : zOk X) {s : Int32} (hs : ¬ (s &&& (-s)) = 0) (hK : K (some (.int (zns s))) g) : zCal X d yX3_nextSet wX3_nextSet [.int s] g K KX :=
  mX3_nextSet hok _ ⟨hs, hK⟩
end BTS
