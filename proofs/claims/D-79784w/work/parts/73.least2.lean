set_option maxRecDepth 100000
/-- the best of the sets of a row, by a test of a set ahead of a best one -/
def zbs (n : Nat) (T : Nat → Nat → Bool) : List Nat → Nat → Nat
  | [], b => b
  | x :: t, b => if 2 ^ n - 1 < x then b else zbs n T t (if T x b = true then x else b)
/-- the best set, of more and more places -/
def zlo (n : Nat) (T : Nat → Nat → Bool) (kf : Bool) (most : Nat) : Nat → Nat → Nat → Nat
  | 0, _, b => b
  | f + 1, s, b => if most < s then b else if ¬ b = 0 then b else if kf = false then b else zlo n T kf most f (s + 1) (zbs n T (zcx 17 s) b)
/-- the test: with the own place p, mends or explains -/
def zTs (n p : Nat) (mb : Bool) (F : Nat → Bool) (x b : Nat) : Bool :=
  ((!zbt x p) == mb) && (b == 0 || zls (nI x) (nI b)) && !(F (if mb = true then 2 ^ n - (x + 1) else x) == mb)
theorem zb_p {x p : Nat} (hx : x < 2 ^ 31) (hp : p < 16) : (nI x &&& nI (2 ^ p) = 0) ↔ zbt x p = false := by
  have h16 := zb_p16 (k := p) (by omega)
  have e : x &&& 2 ^ p = if x.testBit p = true then 2 ^ p else 0 := by
    apply Nat.eq_of_testBit_eq
    intro i
    rw [Nat.testBit_and, Nat.testBit_two_pow]
    by_cases c : p = i
    · subst c
      cases h : x.testBit p with
      | true => simp [Nat.testBit_two_pow]
      | false => simp
    · cases h : x.testBit p with
      | true => simp [Nat.testBit_two_pow, c]
      | false => simp [c]
  rw [zb_and, e, zbt_t]
  have h2 := Nat.two_pow_pos p
  cases h : x.testBit p with
  | false => simp [nI_0]
  | true =>
    have : ¬ nI (2 ^ p) = 0 := nI_ne0 h2 (by omega)
    simp [this]
theorem zvd_c {x : Nat} {t : List Nat} (h : zvd (x :: t) = true) {n : Nat} (hn : n ≤ 16) (hx : ¬ 2 ^ n - 1 < x) : x < 65536 ∧ ∃ (y : Nat) (t' : List Nat), t = y :: t' ∧ ¬ (nI x &&& (-(nI x))) = 0 ∧ zns (nI x) = nI y ∧ zvd (y :: t') = true := by
  have h16 := zb_p16 hn
  cases t with
  | nil =>
    unfold zvd at h
    rw [Bool.and_eq_true] at h
    have := Nat.le_of_ble_eq_true h.1
    omega
  | cons y t =>
    unfold zvd at h
    rw [Bool.and_eq_true, Bool.and_eq_true, Bool.or_eq_true] at h
    obtain ⟨⟨h1, h2⟩, h3⟩ := h
    have h2 := h2.resolve_left (fun q => by
      have := Nat.le_of_ble_eq_true q
      omega)
    rw [Bool.and_eq_true] at h2
    refine ⟨by omega, y, t, rfl, by simpa using h2.1, by simpa using h2.2, h3⟩
theorem zvd_lt {x : Nat} {t : List Nat} (h : zvd (x :: t) = true) : x < 131072 := by
  cases t with
  | nil =>
    unfold zvd at h
    rw [Bool.and_eq_true] at h
    exact Nat.le_of_ble_eq_true h.2
  | cons y t =>
    unfold zvd at h
    rw [Bool.and_eq_true, Bool.and_eq_true] at h
    exact Nat.le_of_ble_eq_true h.1.1
section LST
variable {X : zX} {d : Nat} {g : zG} {K : Option Value → zG → Prop} {KX : String → zG → Prop} {m : Nat} {fi : Nat → Int32} {ad : Nat → Nat} {fa : Nat → Nat → Int32} {lg : List Nat}
/-- whether the answer for v is FALSE with a set alone -/
def zFw (fi : Nat → Int32) (fa : Nat → Nat → Int32) (lg : List Nat) (i n v : Nat) (s : Nat) : Bool := zAn fi fa i n (zsb lg (zbt s) lg.length) lg.length v == 0
theorem zbI_e {a b : Bool} : zbI a = zbI b ↔ a = b := by cases a <;> cases b <;> decide
theorem mp_least_i (hok : zOk X) (hL : zLg fi fa lg) (h16 : lg.length ≤ 16) {M : Nat} {np : Nat → Nat} (hM0 : zMo fi fa M np) {i p : Nat} {mb : Bool} {most s : Nat} (hi : i < M) (hp : p < lg.length) {E : zM} (C : zC X (d + 6) E RX3 cX3_least 12 (some .int) "least") (hQ : zQ X E K KX) : ∀ (t : List Nat) (x b : Nat) (g1 : zG) (fi' : Nat → Int32) (fa' : Nat → Nat → Int32), zvd (x :: t) = true → b < 65536 → zMd g1 m fi' ad fa' → zNm g g1 → zSc fi fa fi' fa' →
    (∀ (b' : Nat) (g' : zG) (fi'' : Nat → Int32) (fa'' : Nat → Nat → Int32), b' < 65536 → b' = zbs lg.length (zTs lg.length p mb (zFw fi fa lg i (np i) (zr lg p))) (x :: t) b → zMd g' m fi'' ad fa'' → zNm g g' → zSc fi fa fi'' fa'' → GW X E 12 g' 36 [(0, .ref m), (1, .int (nI i)), (2, .int (nI (zr lg p))), (3, .int (zbI mb)), (4, .int (nI b')), (5, .int (nI (2 ^ p))), (6, .int (nI most)), (7, .int (nI (2 ^ lg.length - 1))), (8, .int (nI (s + 1)))] []) →
    GW X E 12 g1 70 [(0, .ref m), (1, .int (nI i)), (2, .int (nI (zr lg p))), (3, .int (zbI mb)), (4, .int (nI b)), (5, .int (nI (2 ^ p))), (6, .int (nI most)), (7, .int (nI (2 ^ lg.length - 1))), (8, .int (nI s)), (9, .int (nI x))] []
  | t, x, b, g1, fi', fa', hvd, hb, hM, hN, hS, hK => by
    have hx17 := zvd_lt hvd
    have hp16 := zb_p16 h16
    have h2p := Nat.two_pow_pos lg.length
    by_cases hx : 2 ^ lg.length - 1 < x
    · refine bX3_least_70 (d := d + 5) C hQ g1 m _ _ _ _ _ _ _ _ _ ⟨fun _ => ?_, fun z => absurd (nI_lt hx (by omega)) z⟩
      rw [← nI_succ]
      exact hK b g1 fi' fa' hb (by unfold zbs; rw [if_pos hx]) hM hN hS
    · obtain ⟨hx16, y, t', rfl, hnz, hns, hvd'⟩ := zvd_c hvd h16 hx
      have hz : ∀ b, zbs lg.length (zTs lg.length p mb (zFw fi fa lg i (np i) (zr lg p))) (x :: y :: t') b = zbs lg.length (zTs lg.length p mb (zFw fi fa lg i (np i) (zr lg p))) (y :: t') (if zTs lg.length p mb (zFw fi fa lg i (np i) (zr lg p)) x b = true then x else b) := fun b => if_neg hx
      have hx31 : x < 2 ^ 31 := by omega
      -- on with the next set
      have next : ∀ (b2 : Nat) (g2 : zG) (fi2 : Nat → Int32) (fa2 : Nat → Nat → Int32), b2 = (if zTs lg.length p mb (zFw fi fa lg i (np i) (zr lg p)) x b = true then x else b) → zMd g2 m fi2 ad fa2 → zNm g g2 → zSc fi fa fi2 fa2 → zCal X (d + 5) yX3_nextSet wX3_nextSet [.int (nI x)] g2 (fun r g_1 => ∃ v_2 : Int32, r = some (.int v_2) ∧ GW X E 12 g_1 70 [(0, .ref m), (1, .int (nI i)), (2, .int (nI (zr lg p))), (3, .int (zbI mb)), (4, .int (nI b2)), (5, .int (nI (2 ^ p))), (6, .int (nI most)), (7, .int (nI (2 ^ lg.length - 1))), (8, .int (nI s)), (9, .int v_2)] []) KX := by
        intro b2 g2 fi2 fa2 hb2 M2 N2 S2
        refine mp_nextSet hok hnz ⟨_, rfl, ?_⟩
        rw [hns]
        have hb2' : b2 < 65536 := by
          rw [hb2]
          split <;> omega
        exact mp_least_i hok hL h16 hM0 hi hp C hQ t' y b2 g2 fi2 fa2 hvd' hb2' M2 N2 S2 (fun b' g' fi'' fa'' q1 q2 q3 q4 q5 => hK b' g' fi'' fa'' q1 (by rw [hz, ← hb2]; exact q2) q3 q4 q5)
      have r151 : ∀ (g2 : zG) (fi2 : Nat → Int32) (fa2 : Nat → Nat → Int32), zTs lg.length p mb (zFw fi fa lg i (np i) (zr lg p)) x b = false → zMd g2 m fi2 ad fa2 → zNm g g2 → zSc fi fa fi2 fa2 → GW X E 12 g2 151 [(0, .ref m), (1, .int (nI i)), (2, .int (nI (zr lg p))), (3, .int (zbI mb)), (4, .int (nI b)), (5, .int (nI (2 ^ p))), (6, .int (nI most)), (7, .int (nI (2 ^ lg.length - 1))), (8, .int (nI s)), (9, .int (nI x))] [] := fun g2 fi2 fa2 hT M2 N2 S2 => bX3_least_151 (d := d + 5) C hQ g2 m _ _ _ _ _ _ _ _ _ (next b g2 fi2 fa2 (by rw [hT]; rfl) M2 N2 S2)
      have no : zTs lg.length p mb (zFw fi fa lg i (np i) (zr lg p)) x b = false → GW X E 12 g1 113 [(0, .ref m), (1, .int (nI i)), (2, .int (nI (zr lg p))), (3, .int (zbI mb)), (4, .int (nI b)), (5, .int (nI (2 ^ p))), (6, .int (nI most)), (7, .int (nI (2 ^ lg.length - 1))), (8, .int (nI s)), (9, .int (nI x))] [] := fun hT => bX3_least_113 (d := d + 5) C hQ g1 m _ _ _ _ _ _ _ _ _ (bX3_least_114 (d := d + 5) C hQ g1 m _ _ _ _ _ _ _ _ _ _ ⟨fun _ => r151 g1 fi' fa' hT hM hN hS, fun z => absurd rfl z⟩)
      have hMo' : zMo fi' fa' M np := hM0.fa' (hS.1 20 (by decide) (by decide) (by decide)) (fun j a b => hS.2 j (by omega) (by omega) (by omega) (by omega))
      have r140 : ∀ q : Nat, q < 2 ^ 31 → zbt q p = true → q = (if mb = true then 2 ^ lg.length - (x + 1) else x) → ((!zbt x p) == mb) = true → (b == 0 || zls (nI x) (nI b)) = true → GW X E 12 g1 140 [(0, .ref m), (1, .int (nI i)), (2, .int (nI (zr lg p))), (3, .int (zbI mb)), (4, .int (nI b)), (5, .int (nI (2 ^ p))), (6, .int (nI most)), (7, .int (nI (2 ^ lg.length - 1))), (8, .int (nI s)), (9, .int (nI x))] [.int (nI q), .int (nI (zr lg p)), .int (nI i), .ref m] := by
        intro q hq31 hqp hq h1 h2
        refine bX3_least_140 (d := d + 5) C hQ g1 m _ _ _ _ _ _ _ _ _ m _ _ _ ⟨hM.is, mp_isFalseWith (d := d) hok hM (hS.lgg hL) h16 hMo' hi hq31 (zsb_mem.mpr ⟨p, hp, hqp, rfl⟩) (fun g2 fi2 fa2 a1 a2 a3 => ⟨_, rfl, zbI_b _, ?_⟩)⟩
        rw [hS.an]
        have hT : zTs lg.length p mb (zFw fi fa lg i (np i) (zr lg p)) x b = !((zAn fi fa i (np i) (zsb lg (zbt q) lg.length) lg.length (zr lg p) == 0) == mb) := by
          unfold zTs zFw
          rw [h1, h2, ← hq]
          rfl
        refine ⟨fun z => r151 g2 fi2 fa2 ?_ a1 (hN.trans a2) (hS.trans a3), fun z => next x g2 fi2 fa2 ?_ a1 (hN.trans a2) (hS.trans a3)⟩
        · rw [hT, zbI_e.mp z]
          simp
        · have : ¬ (zAn fi fa i (np i) (zsb lg (zbt q) lg.length) lg.length (zr lg p) == 0) = mb := fun w => z (by rw [w])
          rw [hT, beq_eq_false_iff_ne.mpr this]
          rfl
      have yes : ((!zbt x p) == mb) = true → (b == 0 || zls (nI x) (nI b)) = true → GW X E 12 g1 109 [(0, .ref m), (1, .int (nI i)), (2, .int (nI (zr lg p))), (3, .int (zbI mb)), (4, .int (nI b)), (5, .int (nI (2 ^ p))), (6, .int (nI most)), (7, .int (nI (2 ^ lg.length - 1))), (8, .int (nI s)), (9, .int (nI x))] [] := by
        intro h1 h2
        refine bX3_least_109 (d := d + 5) C hQ g1 m _ _ _ _ _ _ _ _ _ (bX3_least_114 (d := d + 5) C hQ g1 m _ _ _ _ _ _ _ _ _ _ ⟨fun z => absurd z (by decide), fun _ => ⟨fun z => ?_, fun z => ?_⟩⟩)
        · have hmb := zbI_0.mp z
          subst hmb
          exact r140 x hx31 (by simpa using h1) rfl h1 h2
        · have hmb : mb = true := by simpa [zbI_0] using z
          subst hmb
          rw [zb_not h16 (by omega)]
          have hpn : zbt x p = false := by simpa using h1
          refine r140 _ (by omega) ?_ rfl h1 h2
          rw [zbt_n (by omega) hp, hpn]
          rfl
      have r90 : ∀ t0 : Int32, t0 = zbI (!zbt x p) → GW X E 12 g1 90 [(0, .ref m), (1, .int (nI i)), (2, .int (nI (zr lg p))), (3, .int (zbI mb)), (4, .int (nI b)), (5, .int (nI (2 ^ p))), (6, .int (nI most)), (7, .int (nI (2 ^ lg.length - 1))), (8, .int (nI s)), (9, .int (nI x))] [.int t0] := by
        intro t0 ht
        subst ht
        refine bX3_least_90 (d := d + 5) C hQ g1 m _ _ _ _ _ _ _ _ _ _ ⟨fun z => no ?_, fun z => ⟨fun z2 => yes ?_ ?_, fun z2 => mp_isLess hok ⟨_, rfl, zbI_b _, fun z3 => no ?_, fun z3 => yes ?_ ?_⟩⟩⟩
        · have : ((!zbt x p) == mb) = false := beq_eq_false_iff_ne.mpr (fun w => z (by rw [w]))
          unfold zTs
          rw [this]
          rfl
        · exact beq_iff_eq.mpr (zbI_e.mp z)
        · have : b = 0 := (nI_eq (b := 0) (by omega) (by omega)).mp z2
          subst this
          rfl
        · have : ¬ b = 0 := fun w => z2 (by rw [w]; rfl)
          unfold zTs
          rw [beq_eq_false_iff_ne.mpr this, zbI_0.mp z3]
          simp
        · exact beq_iff_eq.mpr (zbI_e.mp z)
        · have : zls (nI x) (nI b) = true := by simpa [zbI_0] using z3
          rw [this, Bool.or_true]
      refine bX3_least_70 (d := d + 5) C hQ g1 m _ _ _ _ _ _ _ _ _ ⟨fun z => absurd z (nI_nlt (by omega) (by omega)), fun _ => ⟨fun z => r90 0 ?_, fun z => r90 1 ?_⟩⟩
      · have : zbt x p = true := by
          cases h : zbt x p with
          | true => rfl
          | false => exact absurd ((zb_p hx31 (by omega)).mpr h) z
        rw [this]
        rfl
      · rw [(zb_p hx31 (by omega)).mp z]
        rfl
theorem zcx_h : ∀ s : Nat, 1 ≤ s → s ≤ 4 → ∃ t, zcx 17 s = (2 ^ s - 1) :: t ∧ zvd ((2 ^ s - 1) :: t) = true := by
  intro s h1 h2
  have : s = 1 ∨ s = 2 ∨ s = 3 ∨ s = 4 := by omega
  have key : ∀ (l : List Nat) (x : Nat), l.head? = some x → zvd l = true → ∃ t, l = x :: t ∧ zvd (x :: t) = true := by
    intro l x a b
    cases l with
    | nil => cases a
    | cons y t =>
      have : y = x := Option.some.inj a
      subst this
      exact ⟨t, rfl, b⟩
  rcases this with rfl | rfl | rfl | rfl
  · exact key _ _ zch_1 zvd_1
  · exact key _ _ zch_2 zvd_2
  · exact key _ _ zch_3 zvd_3
  · exact key _ _ zch_4 zvd_4
theorem mp_least_o (hok : zOk X) (hL : zLg fi fa lg) (h16 : lg.length ≤ 16) {M : Nat} {np : Nat → Nat} (hM0 : zMo fi fa M np) {i p : Nat} {mb : Bool} {most : Nat} (hi : i < M) (hp : p < lg.length) (hmost : most ≤ 4) {E : zM} (C : zC X (d + 6) E RX3 cX3_least 12 (some .int) "least") (hQ : zQ X E K KX)
    (hK : ∀ (b' : Nat) (g' : zG) (fi' : Nat → Int32) (fa' : Nat → Nat → Int32), b' < 65536 → b' = zlo lg.length (zTs lg.length p mb (zFw fi fa lg i (np i) (zr lg p))) (fa 25 (80 * i + zr lg p) == 0) most 5 1 0 → zMd g' m fi' ad fa' → zNm g g' → zSc fi fa fi' fa' → K (some (.int (nI b'))) g') : ∀ (f s b : Nat) (g1 : zG) (fi' : Nat → Int32) (fa' : Nat → Nat → Int32), 1 ≤ s → s ≤ 5 → s + f = 6 → b < 65536 → zlo lg.length (zTs lg.length p mb (zFw fi fa lg i (np i) (zr lg p))) (fa 25 (80 * i + zr lg p) == 0) most f s b = zlo lg.length (zTs lg.length p mb (zFw fi fa lg i (np i) (zr lg p))) (fa 25 (80 * i + zr lg p) == 0) most 5 1 0 → zMd g1 m fi' ad fa' → zNm g g1 → zSc fi fa fi' fa' →
    GW X E 12 g1 36 [(0, .ref m), (1, .int (nI i)), (2, .int (nI (zr lg p))), (3, .int (zbI mb)), (4, .int (nI b)), (5, .int (nI (2 ^ p))), (6, .int (nI most)), (7, .int (nI (2 ^ lg.length - 1))), (8, .int (nI s))] []
  | 0, s, b, g1, fi', fa', h1, h5, hsf, hb, hz, hM, hN, hS => by omega
  | f + 1, s, b, g1, fi', fa', h1, h5, hsf, hb, hz, hM, hN, hS => by
    have hm6 := hM0.1
    have hv := hL.2.2.2.1 _ (zr_mem (R := lg) (k := p) hp)
    have hzs : zlo lg.length (zTs lg.length p mb (zFw fi fa lg i (np i) (zr lg p))) (fa 25 (80 * i + zr lg p) == 0) most (f + 1) s b = if most < s then b else if ¬ b = 0 then b else if (fa 25 (80 * i + zr lg p) == 0) = false then b else zlo lg.length (zTs lg.length p mb (zFw fi fa lg i (np i) (zr lg p))) (fa 25 (80 * i + zr lg p) == 0) most f (s + 1) (zbs lg.length (zTs lg.length p mb (zFw fi fa lg i (np i) (zr lg p))) (zcx 17 s) b) := rfl
    rw [hzs] at hz
    refine bX3_least_36 (d := d + 5) C hQ g1 m _ _ _ _ _ _ _ _ ⟨fun z => ?_, fun z => ⟨fun z2 => ?_, fun z2 => ?_⟩⟩
    · have := (nI_ltI (by omega) (by omega)).mp z
      rw [if_pos this] at hz
      exact hK b g1 fi' fa' hb hz hM hN hS
    · have y1 := mt (nI_ltI (by omega) (by omega)).mpr z
      have y2 : ¬ b = 0 := fun w => z2 (by rw [w]; rfl)
      rw [if_neg y1, if_pos y2] at hz
      exact hK b g1 fi' fa' hb hz hM hN hS
    · have y1 := mt (nI_ltI (by omega) (by omega)).mpr z
      have y2 : b = 0 := (nI_eq (b := 0) (by omega) (by omega)).mp z2
      rw [if_neg y1, if_neg (not_not_intro y2)] at hz
      rw [z80]
      refine ⟨_, _, hM.1, rfl, _, _, hM.2 25 (by decide), (zin 480 rfl (by omega) (by omega)), fun v hv2 => ?_⟩
      rw [nI_clamp (by omega), hS.2 25 (by decide) (by decide) (by decide) (by decide)] at hv2
      subst hv2
      refine ⟨fun z3 => ?_, fun z3 => ?_⟩
      · rw [if_pos (beq_eq_false_iff_ne.mpr z3)] at hz
        exact hK b g1 fi' fa' hb hz hM hN hS
      · rw [if_neg (by rw [beq_iff_eq.mpr z3]; decide)] at hz
        obtain ⟨t, ht, hvd⟩ := zcx_h s h1 (by omega)
        rw [zb_all (by omega)]
        rw [ht] at hz
        exact mp_least_i hok hL h16 hM0 hi hp C hQ t _ b g1 fi' fa' hvd hb hM hN hS (fun b' g' fi'' fa'' q1 q2 q3 q4 q5 => mp_least_o hok hL h16 hM0 hi hp hmost C hQ hK f (s + 1) b' g' fi'' fa'' (by omega) (by omega) (by omega) q1 (by rw [q2]; exact hz) q3 q4 q5)
/-- the least set -/
def zle (fi : Nat → Int32) (fa : Nat → Nat → Int32) (lg : List Nat) (i n p : Nat) (mb : Bool) : Nat := zlo lg.length (zTs lg.length p mb (zFw fi fa lg i n (zr lg p))) (fa 25 (80 * i + zr lg p) == 0) (if mb = true then 3 else 4) 5 1 0
theorem mp_least (hok : zOk X) (hM : zMd g m fi ad fa) (hL : zLg fi fa lg) (h16 : lg.length ≤ 16) {M : Nat} {np : Nat → Nat} (hM0 : zMo fi fa M np) {i v : Nat} {mb : Bool} (hi : i < M) (hv : v ∈ lg)
    (hK : ∀ (b' : Nat) (g' : zG) (fi' : Nat → Int32) (fa' : Nat → Nat → Int32), b' < 65536 → b' = zle fi fa lg i (np i) (lg.idxOf v) mb → zMd g' m fi' ad fa' → zNm g g' → zSc fi fa fi' fa' → K (some (.int (nI b'))) g') : zCal X (d + 6) yX3_least wX3_least [.ref m, .int (nI i), .int (nI v), .int (zbI mb)] g K KX := by
  obtain ⟨h1, h2⟩ := zr_idx hv
  have key : ∀ (E : zM) (most : Nat), zC X (d + 6) E RX3 cX3_least 12 (some .int) "least" → zQ X E K KX → most = (if mb = true then 3 else 4) → GW X E 12 g 36 [(0, .ref m), (1, .int (nI i)), (2, .int (nI v)), (3, .int (zbI mb)), (4, .int 0), (5, .int (nI (2 ^ lg.idxOf v))), (6, .int (nI most)), (7, .int (nI (2 ^ lg.length - 1))), (8, .int 1)] [] := by
    intro E most C hQ hmost
    have := mp_least_o (d := d) (most := most) (mb := mb) (i := i) hok hL h16 hM0 hi h1 (by rw [hmost]; split <;> omega) C hQ (fun b' g' fi' fa' q1 q2 q3 q4 q5 => hK b' g' fi' fa' q1 (by unfold zle; rw [← hmost]; exact q2) q3 q4 q5) 5 1 0 g fi fa (by omega) (by omega) rfl (by omega) rfl hM (zNm.rf g) (zSc.rf _ _)
    rw [h2, nI_0] at this
    exact this
  refine mX3_least (d := d + 5) hok m _ _ _ (fun E C hQ => ⟨hM.is, mp_placeOf hok hM hL hv ⟨_, rfl, fun z => ⟨_, _, hM.1, rfl, ?_⟩, fun z => ⟨_, _, hM.1, rfl, ?_⟩⟩⟩)
  · rw [hL.1, zb_all h16, zb_shl (by omega)]
    exact key E 4 C hQ (by rw [zbI_0.mp z]; rfl)
  · have hmb : mb = true := by simpa [zbI_0] using z
    rw [hL.1, zb_all h16, zb_shl (by omega)]
    exact key E 3 C hQ (by rw [hmb]; rfl)
end LST
