set_option maxRecDepth 100000
/-- the one of a set that is asked by its place in it -/
def zto (lg : List Nat) (s : Nat) : Nat → Nat → Int32 → Int32
  | 0, _, _ => -1
  | c + 1, k, sk => if zbt s k = true then if sk = 0 then nI (zr lg k) else zto lg s c (k + 1) (sk + (-1)) else zto lg s c (k + 1) sk
section TLO
variable {X : zX} {d : Nat} {g : zG} {K : Option Value → zG → Prop} {KX : String → zG → Prop} {m : Nat} {fi : Nat → Int32} {ad : Nat → Nat} {fa : Nat → Nat → Int32} {lg : List Nat}
/-- the exception of a question for a least set -/
def zxl (M n : Nat) (x y : Int32) : Int32 := if zIn x 0 (nI M - 1) = 0 ∨ zIn y 0 (nI n - 1) = 0 then 1 else if 16 < n then 2 else 0
theorem zth_l {M n : Nat} {x y t1 t2 : Int32} (h1 : t1 = if zIn x 0 (nI M - 1) = 0 ∨ zIn y 0 (nI n - 1) = 0 then 0 else 1) (h2 : t2 = if 16 < n then 0 else 1) : zth t1 t2 1 = zxl M n x y := by
  unfold zth zxl
  rw [h1, h2]
  by_cases c1 : zIn x 0 (nI M - 1) = 0 ∨ zIn y 0 (nI n - 1) = 0
  · rw [if_pos c1, if_pos c1]
    rfl
  · rw [if_neg c1, if_neg c1, if_neg (show ¬ (1 : Int32) = 0 by decide)]
    by_cases c2 : 16 < n
    · rw [if_pos c2, if_pos c2]
      rfl
    · rw [if_neg c2, if_neg c2]
      rfl
theorem zxl_0 {M n : Nat} {x y : Int32} (hM : M ≤ 6) (hn : n ≤ 80) (h : zxl M n x y = 0) : n ≤ 16 ∧ ∃ i v : Nat, i < M ∧ v < n ∧ x = nI i ∧ y = nI v := by
  unfold zxl at h
  have c1 : ¬ (zIn x 0 (nI M - 1) = 0 ∨ zIn y 0 (nI n - 1) = 0) := fun q => by
    rw [if_pos q] at h
    exact absurd h (by decide)
  rw [if_neg c1] at h
  have c2 : ¬ 16 < n := fun q => by
    rw [if_pos q] at h
    exact absurd h (by decide)
  obtain ⟨i, hi, rfl⟩ := zIn_n (by omega) (fun q => c1 (Or.inl q))
  obtain ⟨v, hv, rfl⟩ := zIn_n (by omega) (fun q => c1 (Or.inr q))
  exact ⟨by omega, i, v, hi, hv, rfl, rfl⟩
theorem mp_least_34 {fi : Nat → Int32} {fa : Nat → Nat → Int32} {lg : List Nat} {i n p : Nat} {mb : Bool} (v : Int32) : zle (va_up fi 34 v) fa lg i n p mb = zle fi fa lg i n p mb := by
  have e : zFw (va_up fi 34 v) fa lg i n (zr lg p) = zFw fi fa lg i n (zr lg p) := by
    funext s
    unfold zFw
    rw [zAn_sa (fi := fi) (fa := fa) ⟨va_up_ne _ _ (by decide), va_up_ne _ _ (by decide), rfl, rfl, rfl, rfl, rfl, rfl, rfl, rfl, rfl⟩]
  unfold zle
  rw [e]
theorem mp_tellsLeast (hok : zOk X) (hM : zMd g m fi ad fa) (hL : zLg fi fa lg) (hall : ∀ k, k < lg.length → k ∈ lg) {M : Nat} {np : Nat → Nat} (hM0 : zMo fi fa M np) {x y : Int32} {mb : Bool}
    (h1 : lg.length ≤ 16 → ∀ i v : Nat, i < M → v < lg.length → x = nI i → y = nI v → ∀ (g' : zG) (fi' : Nat → Int32) (fa' : Nat → Nat → Int32), zMd g' m fi' ad fa' → zNm g g' → zSc (va_up fi 34 0) fa fi' fa' → K (some (.int (if zle fi fa lg i (np i) (lg.idxOf v) mb = 0 then -1 else nI (zon1 (zle fi fa lg i (np i) (lg.idxOf v) mb) 16)))) g')
    (h0 : zxl M lg.length x y ≠ 0 → ∀ g' : zG, zMd g' m (va_up fi 34 (zxl M lg.length x y)) ad fa → zNm g g' → K (some (.int 0)) g') : zCal X (d + 7) yX3_tellsLeast wX3_tellsLeast [.ref m, .int x, .int y, .int (zbI mb)] g K KX := by
  have h80 := hL.2.1
  have hm6 := hM0.1
  refine mX3_tellsLeast (d := d + 6) hok m _ _ _ (fun E C hQ => ?_)
  have fin : ∀ t1 : Int32, t1 = (if zIn x 0 (nI M - 1) = 0 ∨ zIn y 0 (nI lg.length - 1) = 0 then 0 else 1) → GW X E 5 g 22 [(0, .ref m), (1, .int x), (2, .int y), (3, .int (zbI mb))] [.int t1, .ref m] := by
    intro t1 ht
    have G : ∀ c : Int32, c = (if 16 < lg.length then 0 else 1) → GW X E 5 g 36 [(0, .ref m), (1, .int x), (2, .int y), (3, .int (zbI mb))] [.int c, .int t1, .ref m] := by
      intro c hc
      have key := zth_l ht hc
      refine bX3_tellsLeast_36 (d := d + 6) C hQ g m _ _ _ m _ _ ⟨hM.is, mp_goes2 hok hM (fun z g2 a1 a2 => ⟨1, rfl, Or.inr rfl, fun _ => ?_, fun q => absurd q (by decide)⟩) (fun z g2 a1 a2 => ⟨0, rfl, Or.inl rfl, fun q => absurd rfl q, fun _ => ?_⟩)⟩
      · rw [key] at z
        obtain ⟨h16, i, v, hi, hv, rfl, rfl⟩ := zxl_0 hm6 h80 z
        refine ⟨a1.is, mp_least (d := d) hok a1 (hL.f34 0) h16 (hM0.f34 0) hi (hall v hv) (fun b' g3 fi3 fa3 q1 q2 q3 q4 q5 => ⟨_, rfl, ?_⟩)⟩
        rw [mp_least_34] at q2
        have hk := h1 h16 i v hi hv rfl rfl g3 fi3 fa3 q3 (a2.trans q4) q5
        rw [← q2] at hk
        refine ⟨fun w => ?_, fun w => ?_⟩
        · have : ¬ b' = 0 := fun r => w (by rw [r]; rfl)
          rw [if_neg this] at hk
          exact mp_ones hok (by omega) ⟨_, rfl, hk⟩
        · have : b' = 0 := (nI_eq (b := 0) (by omega) (by omega)).mp w
          rw [if_pos this] at hk
          exact hk
      · rw [key] at z a1
        exact h0 z g2 a1 a2
    refine bX3_tellsLeast_22 (d := d + 6) C hQ g m _ _ _ m _ ⟨_, _, hM.1, rfl, fun z => G 0 ?_, fun z => G 1 ?_⟩
    · rw [hL.1] at z
      have := (nI_ltI (a := 16) (b := lg.length) (by omega) (by omega)).mp z
      rw [if_pos this]
    · rw [hL.1] at z
      have := mt (nI_ltI (a := 16) (b := lg.length) (by omega) (by omega)).mpr z
      rw [if_neg this]
  refine ⟨hM.is, mp_isMonitor (d := d + 5) hok hM ⟨_, rfl, zIn_b _ _ _, fun z => ?_, fun z => ⟨hM.is, mp_isEvent (d := d + 5) hok hM ⟨_, rfl, zIn_b _ _ _, fun z2 => ?_, fun z2 => ?_⟩⟩⟩⟩
  · rw [hM0.2.1] at z
    exact bX3_tellsLeast_21 (d := d + 6) C hQ g m _ _ _ m (fin 0 (by rw [if_pos (Or.inl z)]))
  · rw [hL.1] at z2
    exact bX3_tellsLeast_21 (d := d + 6) C hQ g m _ _ _ m (fin 0 (by rw [if_pos (Or.inr z2)]))
  · rw [hM0.2.1] at z
    rw [hL.1] at z2
    exact fin 1 (by rw [if_neg (fun q => q.elim z z2)])
theorem mp_tellsOne_l (hM : zMd g m fi ad fa) (hL : zLg fi fa lg) (h16 : lg.length ≤ 16) {x : Int32} (hx : ¬ x < 0) {s : Nat} (hs : s < 65536) {E : zM} (C : zC X (d + 7) E RX3 cX3_tellsOne 8 (some .int) "tellsOne") (hQ : zQ X E K KX) : ∀ (c k : Nat) (sk : Int32), lg.length = k + c → K (some (.int (zto lg s c k sk))) g → GW X E 8 g 61 [(0, .ref m), (3, .int x), (5, .int (nI s)), (6, .int sk), (7, .int (nI k))] []
  | 0, k, sk, hc, hK => bX3_tellsOne_61 (d := d + 6) C hQ g m _ _ _ _ ⟨_, _, hM.1, rfl, fun _ => hK, fun z => absurd (show fi 3 ≤ nI k by rw [hL.1]; exact nI_le (by omega) (by omega)) z⟩
  | c + 1, k, sk, hc, hK => by
    unfold zto at hK
    refine bX3_tellsOne_61 (d := d + 6) C hQ g m _ _ _ _ ⟨_, _, hM.1, rfl, fun z => absurd z (by rw [hL.1]; exact nI_ge (by omega) (by omega)), fun _ => ⟨fun z => absurd z hx, fun _ => ?_⟩⟩
    rw [zbt_1 (by omega) (by omega), ← nI_succ]
    refine ⟨fun z => ?_, fun z => ⟨fun z2 => ?_, fun z2 => ⟨_, _, hM.1, rfl, _, _, hM.2 12 (by decide), (zin 80 rfl (by omega) (by omega)), fun v hv => ?_⟩⟩⟩
    · rw [if_neg z] at hK
      exact mp_tellsOne_l hM hL h16 hx hs C hQ c (k + 1) sk (by omega) hK
    · rw [if_pos z, if_neg z2] at hK
      exact mp_tellsOne_l hM hL h16 hx hs C hQ c (k + 1) _ (by omega) hK
    · rw [if_pos z, if_pos z2] at hK
      rw [nI_clamp (by omega), hL.2.2.2.2 k (by omega)] at hv
      subst hv
      exact hK
theorem mp_tellsOne (hok : zOk X) (hM : zMd g m fi ad fa) (hL : zLg fi fa lg) (hall : ∀ k, k < lg.length → k ∈ lg) {M : Nat} {np : Nat → Nat} (hM0 : zMo fi fa M np) {x y q : Int32} {mb : Bool}
    (h1 : lg.length ≤ 16 → ∀ i v : Nat, i < M → v < lg.length → x = nI i → y = nI v → ∀ (g' : zG) (fi' : Nat → Int32) (fa' : Nat → Nat → Int32), zMd g' m fi' ad fa' → zNm g g' → zSc (va_up fi 34 0) fa fi' fa' → K (some (.int (if q < 0 then -1 else zto lg (zle fi fa lg i (np i) (lg.idxOf v) mb) lg.length 0 q))) g')
    (h0 : zxl M lg.length x y ≠ 0 → ∀ g' : zG, zMd g' m (va_up fi 34 (zxl M lg.length x y)) ad fa → zNm g g' → K (some (.int 0)) g') : zCal X (d + 7) yX3_tellsOne wX3_tellsOne [.ref m, .int x, .int y, .int q, .int (zbI mb)] g K KX := by
  have h80 := hL.2.1
  have hm6 := hM0.1
  refine mX3_tellsOne (d := d + 6) hok m _ _ _ _ (fun E C hQ => ?_)
  have fin : ∀ t1 : Int32, t1 = (if zIn x 0 (nI M - 1) = 0 ∨ zIn y 0 (nI lg.length - 1) = 0 then 0 else 1) → GW X E 8 g 22 [(0, .ref m), (1, .int x), (2, .int y), (3, .int q), (4, .int (zbI mb))] [.int t1, .ref m] := by
    intro t1 ht
    have G : ∀ c : Int32, c = (if 16 < lg.length then 0 else 1) → GW X E 8 g 36 [(0, .ref m), (1, .int x), (2, .int y), (3, .int q), (4, .int (zbI mb))] [.int c, .int t1, .ref m] := by
      intro c hc
      have key := zth_l ht hc
      refine bX3_tellsOne_36 (d := d + 6) C hQ g m _ _ _ _ m _ _ ⟨hM.is, mp_goes2 hok hM (fun z g2 a1 a2 => ⟨1, rfl, Or.inr rfl, fun _ => ?_, fun q => absurd q (by decide)⟩) (fun z g2 a1 a2 => ⟨0, rfl, Or.inl rfl, fun q => absurd rfl q, fun _ => ?_⟩)⟩
      · rw [key] at z
        obtain ⟨h16, i, v, hi, hv, rfl, rfl⟩ := zxl_0 hm6 h80 z
        refine ⟨a1.is, mp_least (d := d) hok a1 (hL.f34 0) h16 (hM0.f34 0) hi (hall v hv) (fun b' g3 fi3 fa3 q1 q2 q3 q4 q5 => ⟨_, rfl, ?_⟩)⟩
        rw [mp_least_34] at q2
        have hk := h1 h16 i v hi hv rfl rfl g3 fi3 fa3 q3 (a2.trans q4) q5
        rw [← q2] at hk
        have hL3 := q5.lgg (hL.f34 0)
        rw [show (0 : Int32) = nI 0 from nI_0.symm] at hk ⊢
        by_cases w : q < nI 0
        · rw [if_pos w] at hk
          refine bX3_tellsOne_61 (d := d + 6) C hQ g3 m _ _ _ _ ⟨_, _, q3.1, rfl, fun _ => hk, fun _ => ⟨fun _ => hk, fun z => absurd w z⟩⟩
        · rw [if_neg w] at hk
          exact mp_tellsOne_l (d := d) q3 hL3 h16 w q1 C hQ lg.length 0 q (Nat.zero_add _).symm hk
      · rw [key] at z a1
        exact h0 z g2 a1 a2
    refine bX3_tellsOne_22 (d := d + 6) C hQ g m _ _ _ _ m _ ⟨_, _, hM.1, rfl, fun z => G 0 ?_, fun z => G 1 ?_⟩
    · rw [hL.1] at z
      have := (nI_ltI (a := 16) (b := lg.length) (by omega) (by omega)).mp z
      rw [if_pos this]
    · rw [hL.1] at z
      have := mt (nI_ltI (a := 16) (b := lg.length) (by omega) (by omega)).mpr z
      rw [if_neg this]
  refine ⟨hM.is, mp_isMonitor (d := d + 5) hok hM ⟨_, rfl, zIn_b _ _ _, fun z => ?_, fun z => ⟨hM.is, mp_isEvent (d := d + 5) hok hM ⟨_, rfl, zIn_b _ _ _, fun z2 => ?_, fun z2 => ?_⟩⟩⟩⟩
  · rw [hM0.2.1] at z
    exact bX3_tellsOne_21 (d := d + 6) C hQ g m _ _ _ _ m (fin 0 (by rw [if_pos (Or.inl z)]))
  · rw [hL.1] at z2
    exact bX3_tellsOne_21 (d := d + 6) C hQ g m _ _ _ _ m (fin 0 (by rw [if_pos (Or.inr z2)]))
  · rw [hM0.2.1] at z
    rw [hL.1] at z2
    exact fin 1 (by rw [if_neg (fun q => q.elim z z2)])
/-- what the four questions tell -/
def zqL (K : Option Value → zG → Prop) (m : Nat) (fi : Nat → Int32) (ad : Nat → Nat) (fa : Nat → Nat → Int32) (lg : List Nat) (M : Nat) (np : Nat → Nat) (g : zG) (x y : Int32) (f : Nat → Nat → Int32) : Prop :=
  (lg.length ≤ 16 → ∀ i v : Nat, i < M → v < lg.length → x = nI i → y = nI v → ∀ (g' : zG) (fi' : Nat → Int32) (fa' : Nat → Nat → Int32), zMd g' m fi' ad fa' → zNm g g' → zSc (va_up fi 34 0) fa fi' fa' → K (some (.int (f i v))) g') ∧
  (zxl M lg.length x y ≠ 0 → ∀ g' : zG, zMd g' m (va_up fi 34 (zxl M lg.length x y)) ad fa → zNm g g' → K (some (.int 0)) g')
def zq1 (fi : Nat → Int32) (fa : Nat → Nat → Int32) (lg : List Nat) (np : Nat → Nat) (mb : Bool) (i v : Nat) : Int32 := if zle fi fa lg i (np i) (lg.idxOf v) mb = 0 then -1 else nI (zon1 (zle fi fa lg i (np i) (lg.idxOf v) mb) 16)
def zq2 (fi : Nat → Int32) (fa : Nat → Nat → Int32) (lg : List Nat) (np : Nat → Nat) (mb : Bool) (q : Int32) (i v : Nat) : Int32 := if q < 0 then -1 else zto lg (zle fi fa lg i (np i) (lg.idxOf v) mb) lg.length 0 q
theorem mp_explanation (hok : zOk X) (hM : zMd g m fi ad fa) (hL : zLg fi fa lg) (hall : ∀ k, k < lg.length → k ∈ lg) {M : Nat} {np : Nat → Nat} (hM0 : zMo fi fa M np) {x y : Int32} (h : zqL K m fi ad fa lg M np g x y (zq1 fi fa lg np false)) : zCal X (d + 8) yX3_explanation wX3_explanation [.ref m, .int x, .int y] g K KX :=
  mX3_explanation (d := d + 7) hok m _ _ ⟨hM.is, mp_tellsLeast (d := d) (mb := false) hok hM hL hall hM0 (fun h16 i v hi hv e1 e2 g' fi' fa' a1 a2 a3 => ⟨_, rfl, h.1 h16 i v hi hv e1 e2 g' fi' fa' a1 a2 a3⟩) (fun z g' a1 a2 => ⟨_, rfl, h.2 z g' a1 a2⟩)⟩
theorem mp_mend (hok : zOk X) (hM : zMd g m fi ad fa) (hL : zLg fi fa lg) (hall : ∀ k, k < lg.length → k ∈ lg) {M : Nat} {np : Nat → Nat} (hM0 : zMo fi fa M np) {x y : Int32} (h : zqL K m fi ad fa lg M np g x y (zq1 fi fa lg np true)) : zCal X (d + 8) yX3_mend wX3_mend [.ref m, .int x, .int y] g K KX :=
  mX3_mend (d := d + 7) hok m _ _ ⟨hM.is, mp_tellsLeast (d := d) (mb := true) hok hM hL hall hM0 (fun h16 i v hi hv e1 e2 g' fi' fa' a1 a2 a3 => ⟨_, rfl, h.1 h16 i v hi hv e1 e2 g' fi' fa' a1 a2 a3⟩) (fun z g' a1 a2 => ⟨_, rfl, h.2 z g' a1 a2⟩)⟩
theorem mp_explainedBy (hok : zOk X) (hM : zMd g m fi ad fa) (hL : zLg fi fa lg) (hall : ∀ k, k < lg.length → k ∈ lg) {M : Nat} {np : Nat → Nat} (hM0 : zMo fi fa M np) {x y q : Int32} (h : zqL K m fi ad fa lg M np g x y (zq2 fi fa lg np false q)) : zCal X (d + 8) yX3_explainedBy wX3_explainedBy [.ref m, .int x, .int y, .int q] g K KX :=
  mX3_explainedBy (d := d + 7) hok m _ _ _ ⟨hM.is, mp_tellsOne (d := d) (mb := false) hok hM hL hall hM0 (fun h16 i v hi hv e1 e2 g' fi' fa' a1 a2 a3 => ⟨_, rfl, h.1 h16 i v hi hv e1 e2 g' fi' fa' a1 a2 a3⟩) (fun z g' a1 a2 => ⟨_, rfl, h.2 z g' a1 a2⟩)⟩
theorem mp_mendedBy (hok : zOk X) (hM : zMd g m fi ad fa) (hL : zLg fi fa lg) (hall : ∀ k, k < lg.length → k ∈ lg) {M : Nat} {np : Nat → Nat} (hM0 : zMo fi fa M np) {x y q : Int32} (h : zqL K m fi ad fa lg M np g x y (zq2 fi fa lg np true q)) : zCal X (d + 8) yX3_mendedBy wX3_mendedBy [.ref m, .int x, .int y, .int q] g K KX :=
  mX3_mendedBy (d := d + 7) hok m _ _ _ ⟨hM.is, mp_tellsOne (d := d) (mb := true) hok hM hL hall hM0 (fun h16 i v hi hv e1 e2 g' fi' fa' a1 a2 a3 => ⟨_, rfl, h.1 h16 i v hi hv e1 e2 g' fi' fa' a1 a2 a3⟩) (fun z g' a1 a2 => ⟨_, rfl, h.2 z g' a1 a2⟩)⟩
end TLO
