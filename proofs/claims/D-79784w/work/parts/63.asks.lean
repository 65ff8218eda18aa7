set_option maxRecDepth 100000
/-- the count, and the greatest, of a kind in a stretch, of the first k events -/
def zct (fa : Nat → Nat → Int32) (kd a b : Int32) : Nat → Int32
  | 0 => 0
  | k + 1 => zct fa kd a b k + (if fa 8 k = kd ∧ ¬ zIn (fa 7 k) a b = 0 then 1 else 0)
def zgt (fa : Nat → Nat → Int32) (kd a b : Int32) : Nat → Int32
  | 0 => -1001
  | k + 1 => if fa 8 k = kd ∧ ¬ zIn (fa 7 k) a b = 0 ∧ ¬ fa 10 k ≤ zgt fa kd a b k then fa 10 k else zgt fa kd a b k
/-- how many answers are one -/
def zas (fa : Nat → Nat → Int32) (i : Nat) (a : Int32) : Nat → Int32
  | 0 => 0
  | k + 1 => zas fa i a k + (if fa 25 (80 * i + k) = a then 1 else 0)
/-- whether a stretch may be asked -/
def zok3 (kd a b : Int32) : Bool := !(zIn kd 0 7 == 0) && !(zIn a 0 11000 == 0) && !(zIn b a 11000 == 0)
section ASK
variable {X : zX} {d : Nat} {g : zG} {K : Option Value → zG → Prop} {KX : String → zG → Prop} {m : Nat} {fi : Nat → Int32} {ad : Nat → Nat} {fa : Nat → Nat → Int32}
theorem zth1_0 {a : Int32} (h : zth a 1 1 = 0) : ¬ a = 0 := fun w => by
  rw [zth1, if_pos w] at h
  exact absurd h (by decide)
theorem zth1_1 {a : Int32} (h : zth a 1 1 ≠ 0) : a = 0 ∧ zth a 1 1 = 1 := by
  by_cases c : a = 0
  · exact ⟨c, by rw [zth1, if_pos c]⟩
  · rw [zth1, if_neg c] at h
    exact absurd rfl h
theorem mp_eventAt (hok : zOk X) (hM : zMd g m fi ad fa) {v : Int32} {n : Nat} (hn : n ≤ 80) (h3 : fi 3 = nI n)
    (h1 : ∀ j : Nat, j < n → v = nI j → ∀ g' : zG, zMd g' m (va_up fi 34 0) ad fa → zNm g g' → K (some (.int (fa 12 j))) g')
    (h0 : zIn v 0 (nI n - 1) = 0 → ∀ g' : zG, zMd g' m (va_up fi 34 1) ad fa → zNm g g' → K (some (.int 0)) g') : zCal X (d + 2) yX3_eventAt wX3_eventAt [.ref m, .int v] g K KX := by
  refine mX3_eventAt (d := d + 1) hok m v ⟨hM.is, mp_isEvent hok hM ⟨_, rfl, zIn_b _ _ _, hM.is, mp_goes2 hok hM (fun z g2 a1 a2 => ?_) (fun z g2 a1 a2 => ?_)⟩⟩
  · rw [h3] at z
    obtain ⟨j, hj, rfl⟩ := zIn_n (by omega) (zth1_0 z)
    refine ⟨_, rfl, Or.inr rfl, fun w => absurd w (by decide), fun _ => ⟨_, _, a1.1, rfl, _, _, a1.2 12 (by decide), (zin 80 rfl (by omega) (by omega)), fun w hw => ?_⟩⟩
    rw [nI_clamp (by omega)] at hw
    subst hw
    exact h1 j hj rfl g2 a1 a2
  · rw [h3] at z a1
    rw [(zth1_1 z).2] at a1
    exact ⟨_, rfl, Or.inl rfl, fun _ => h0 (zth1_1 z).1 g2 a1 a2, fun w => absurd rfl w⟩
theorem mp_isLate (hok : zOk X) (hM : zMd g m fi ad fa) {v : Int32} {n : Nat} (hn : n ≤ 80) (h3 : fi 3 = nI n)
    (h1 : ∀ j : Nat, j < n → v = nI j → ∀ g' : zG, zMd g' m (va_up fi 34 0) ad fa → zNm g g' → K (some (.int (if fa 11 j = 0 then 0 else 1))) g')
    (h0 : zIn v 0 (nI n - 1) = 0 → ∀ g' : zG, zMd g' m (va_up fi 34 1) ad fa → zNm g g' → K (some (.int 0)) g') : zCal X (d + 2) yX3_isLate wX3_isLate [.ref m, .int v] g K KX := by
  refine mX3_isLate (d := d + 1) hok m v ⟨hM.is, mp_isEvent hok hM ⟨_, rfl, zIn_b _ _ _, hM.is, mp_goes2 hok hM (fun z g2 a1 a2 => ?_) (fun z g2 a1 a2 => ?_)⟩⟩
  · rw [h3] at z
    obtain ⟨j, hj, rfl⟩ := zIn_n (by omega) (zth1_0 z)
    refine ⟨_, rfl, Or.inr rfl, fun w => absurd w (by decide), fun _ => ⟨_, _, a1.1, rfl, _, _, a1.2 11 (by decide), (zin 80 rfl (by omega) (by omega)), fun w hw => ?_⟩⟩
    rw [nI_clamp (by omega)] at hw
    subst hw
    have := h1 j hj rfl g2 a1 a2
    refine ⟨fun c => ?_, fun c => ?_⟩
    · rw [if_pos c] at this
      exact this
    · rw [if_neg c] at this
      exact this
  · rw [h3] at z a1
    rw [(zth1_1 z).2] at a1
    exact ⟨_, rfl, Or.inl rfl, fun _ => h0 (zth1_1 z).1 g2 a1 a2, fun w => absurd rfl w⟩
theorem mp_isStretch (hok : zOk X) (hM : zMd g m fi ad fa) {kd a b : Int32}
    (h1 : zok3 kd a b = true → ∀ g' : zG, zMd g' m (va_up fi 34 0) ad fa → zNm g g' → K (some (.int 1)) g')
    (h0 : zok3 kd a b = false → ∀ g' : zG, zMd g' m (va_up fi 34 1) ad fa → zNm g g' → K (some (.int 0)) g') : zCal X (d + 2) yX3_isStretch wX3_isStretch [.ref m, .int kd, .int a, .int b] g K KX := by
  have no : zok3 kd a b = false → zIs g 3 m ∧ zCal X (d + 1) yX3_goes wX3_goes [.ref m, .int 0, .int 1, .int 1] g (fun r g_3 => ∃ v_4 : Int32, r = some (.int v_4) ∧ zbo v_4 ∧ zbo v_4 ∧ K (some (.int v_4)) g_3) KX := fun hf => ⟨hM.is, mp_goes2 hok hM (fun w => absurd w (by decide)) (fun _ g2 a1 a2 => ⟨0, rfl, Or.inl rfl, Or.inl rfl, h0 hf g2 a1 a2⟩)⟩
  refine mX3_isStretch (d := d + 1) hok m _ _ _ (mp_isKind hok ⟨_, rfl, zIn_b _ _ _, fun z => no ?_, fun z => mp_in hok ⟨_, rfl, zIn_b _ _ _, fun z2 => no ?_, fun z2 => mp_in hok ⟨_, rfl, zIn_b _ _ _, fun z3 => no ?_, fun z3 => ⟨hM.is, mp_goes2 hok hM (fun _ g2 a1 a2 => ⟨1, rfl, Or.inr rfl, Or.inr rfl, h1 ?_ g2 a1 a2⟩) (fun w => absurd (by decide) w)⟩⟩⟩⟩)
  · unfold zok3
    simp [z]
  · unfold zok3
    simp [z2]
  · unfold zok3
    simp [z3]
  · unfold zok3
    simp [z, z2, z3]
theorem mp_count_l (hok : zOk X) (hM : zMd g m fi ad fa) {kd a b : Int32} {n : Nat} (hn : n ≤ 80) (h3 : fi 3 = nI n) {E : zM} (C : zC X (d + 1) E RX3 cX3_count 6 (some .int) "count") (hQ : zQ X E K KX) (hK : K (some (.int (zct fa kd a b n))) g) : ∀ (c k : Nat), n = k + c → GW X E 6 g 18 [(0, .ref m), (1, .int kd), (2, .int a), (3, .int b), (4, .int (zct fa kd a b k)), (5, .int (nI k))] []
  | 0, k, hc => by
    have : n = k := by omega
    subst this
    exact bX3_count_18 (d := d) C hQ g m _ _ _ _ _ ⟨_, _, hM.1, rfl, fun _ => hK, fun z => absurd (show fi 3 ≤ nI n by rw [h3]; exact nI_le (by omega) (by omega)) z⟩
  | c + 1, k, hc => by
    have ih := mp_count_l hok hM hn h3 C hQ hK c (k + 1) (by omega)
    unfold zct at ih
    refine bX3_count_18 (d := d) C hQ g m _ _ _ _ _ ⟨_, _, hM.1, rfl, fun z => absurd z (by rw [h3]; exact nI_ge (by omega) (by omega)), fun _ => ⟨_, _, hM.1, rfl, _, _, hM.2 8 (by decide), (zin 80 rfl (by omega) (by omega)), fun v hv => ?_⟩⟩
    rw [nI_clamp (by omega)] at hv
    subst hv
    rw [← nI_succ]
    refine ⟨fun z => ?_, fun z => ⟨_, _, hM.1, rfl, _, _, hM.2 7 (by decide), (zin 80 rfl (by omega) (by omega)), fun v hv => mp_in hok ⟨_, rfl, zIn_b _ _ _, fun z2 => ?_, fun z2 => ?_⟩⟩⟩
    · rw [if_neg (fun w => z w.1)] at ih
      exact ih
    · rw [nI_clamp (by omega)] at hv
      subst hv
      rw [if_neg (fun w => w.2 z2)] at ih
      exact ih
    · rw [nI_clamp (by omega)] at hv
      subst hv
      rw [if_pos ⟨z, z2⟩] at ih
      exact ih
theorem mp_count (hok : zOk X) (hM : zMd g m fi ad fa) {kd a b : Int32} {n : Nat} (hn : n ≤ 80) (h3 : fi 3 = nI n)
    (h1 : zok3 kd a b = true → ∀ g' : zG, zMd g' m (va_up fi 34 0) ad fa → zNm g g' → K (some (.int (zct fa kd a b n))) g')
    (h0 : zok3 kd a b = false → ∀ g' : zG, zMd g' m (va_up fi 34 1) ad fa → zNm g g' → K (some (.int 0)) g') : zCal X (d + 3) yX3_count wX3_count [.ref m, .int kd, .int a, .int b] g K KX := by
  refine mX3_count (d := d + 2) hok m _ _ _ (fun E C hQ => ⟨hM.is, mp_isStretch hok hM (fun z g2 a1 a2 => ⟨1, rfl, Or.inr rfl, fun _ => ?_, fun w => absurd w (by decide)⟩) (fun z g2 a1 a2 => ⟨0, rfl, Or.inl rfl, fun w => absurd rfl w, fun _ => h0 z g2 a1 a2⟩)⟩)
  have := mp_count_l (d := d + 2) (kd := kd) (a := a) (b := b) hok a1 hn ((va_up_ne _ _ (by decide)).trans h3) C hQ (h1 z g2 a1 a2) n 0 (Nat.zero_add _).symm
  rw [nI_0] at this
  exact this
theorem mp_greatest_l (hok : zOk X) (hM : zMd g m fi ad fa) {kd a b : Int32} {n : Nat} (hn : n ≤ 80) (h3 : fi 3 = nI n) {E : zM} (C : zC X (d + 1) E RX3 cX3_greatest 6 (some .int) "greatest") (hQ : zQ X E K KX) (hK : K (some (.int (zgt fa kd a b n))) g) : ∀ (c k : Nat), n = k + c → GW X E 6 g 20 [(0, .ref m), (1, .int kd), (2, .int a), (3, .int b), (4, .int (zgt fa kd a b k)), (5, .int (nI k))] []
  | 0, k, hc => by
    have : n = k := by omega
    subst this
    exact bX3_greatest_20 (d := d) C hQ g m _ _ _ _ _ ⟨_, _, hM.1, rfl, fun _ => hK, fun z => absurd (show fi 3 ≤ nI n by rw [h3]; exact nI_le (by omega) (by omega)) z⟩
  | c + 1, k, hc => by
    have ih := mp_greatest_l hok hM hn h3 C hQ hK c (k + 1) (by omega)
    unfold zgt at ih
    refine bX3_greatest_20 (d := d) C hQ g m _ _ _ _ _ ⟨_, _, hM.1, rfl, fun z => absurd z (by rw [h3]; exact nI_ge (by omega) (by omega)), fun _ => ⟨_, _, hM.1, rfl, _, _, hM.2 8 (by decide), (zin 80 rfl (by omega) (by omega)), fun v hv => ?_⟩⟩
    rw [nI_clamp (by omega)] at hv
    subst hv
    rw [← nI_succ]
    refine ⟨fun z => ?_, fun z => ⟨_, _, hM.1, rfl, _, _, hM.2 7 (by decide), (zin 80 rfl (by omega) (by omega)), fun v hv => mp_in hok ⟨_, rfl, zIn_b _ _ _, fun z2 => ?_, fun z2 => ⟨_, _, hM.1, rfl, _, _, hM.2 10 (by decide), (zin 80 rfl (by omega) (by omega)), fun v2 hv2 => ?_⟩⟩⟩⟩
    · rw [if_neg (fun w => z w.1)] at ih
      exact ih
    · rw [nI_clamp (by omega)] at hv
      subst hv
      rw [if_neg (fun w => w.2.1 z2)] at ih
      exact ih
    · rw [nI_clamp (by omega)] at hv hv2
      subst hv hv2
      refine ⟨fun z3 => ?_, fun z3 => ⟨_, _, hM.1, rfl, _, _, hM.2 10 (by decide), (zin 80 rfl (by omega) (by omega)), fun v3 hv3 => ?_⟩⟩
      · rw [if_neg (fun w => w.2.2 z3)] at ih
        exact ih
      · rw [nI_clamp (by omega)] at hv3
        subst hv3
        rw [if_pos ⟨z, z2, z3⟩] at ih
        exact ih
theorem mp_greatest (hok : zOk X) (hM : zMd g m fi ad fa) {kd a b : Int32} {n : Nat} (hn : n ≤ 80) (h3 : fi 3 = nI n)
    (h1 : zok3 kd a b = true → ∀ g' : zG, zMd g' m (va_up fi 34 0) ad fa → zNm g g' → K (some (.int (zgt fa kd a b n))) g')
    (h0 : zok3 kd a b = false → ∀ g' : zG, zMd g' m (va_up fi 34 1) ad fa → zNm g g' → K (some (.int 0)) g') : zCal X (d + 3) yX3_greatest wX3_greatest [.ref m, .int kd, .int a, .int b] g K KX := by
  refine mX3_greatest (d := d + 2) hok m _ _ _ (fun E C hQ => ⟨hM.is, mp_isStretch hok hM (fun z g2 a1 a2 => ⟨1, rfl, Or.inr rfl, fun _ => ?_, fun w => absurd w (by decide)⟩) (fun z g2 a1 a2 => ⟨0, rfl, Or.inl rfl, fun w => absurd rfl w, fun _ => h0 z g2 a1 a2⟩)⟩)
  have := mp_greatest_l (d := d + 2) (kd := kd) (a := a) (b := b) hok a1 hn ((va_up_ne _ _ (by decide)).trans h3) C hQ (h1 z g2 a1 a2) n 0 (Nat.zero_add _).symm
  rw [nI_0] at this
  exact this
theorem mp_greatestByAll (hok : zOk X) (hM : zMd g m fi ad fa) {kd a b : Int32} {n : Nat} (hn : n ≤ 80) (h3 : fi 3 = nI n)
    (h1 : zok3 kd a b = true → ∀ g' : zG, zMd g' m (va_up fi 34 0) ad fa → zNm g g' → K (some (.int (zgt fa kd a b n))) g')
    (h0 : zok3 kd a b = false → ∀ g' : zG, zMd g' m (va_up fi 34 1) ad fa → zNm g g' → K (some (.int 0)) g') : zCal X (d + 4) yX3_greatestByAll wX3_greatestByAll [.ref m, .int kd, .int a, .int b] g K KX :=
  mX3_greatestByAll (d := d + 3) hok m _ _ _ ⟨hM.is, mp_greatest (d := d) hok hM hn h3 (fun z g' a1 a2 => ⟨_, rfl, h1 z g' a1 a2⟩) (fun z g' a1 a2 => ⟨_, rfl, h0 z g' a1 a2⟩)⟩
theorem mp_asks (hok : zOk X) (hM : zMd g m fi ad fa) {x y : Int32} {M n : Nat} (hm : M ≤ 6) (hn : n ≤ 80) (h20 : fi 20 = nI M) (h3 : fi 3 = nI n)
    (h1 : ∀ i e : Nat, i < M → e < n → x = nI i → y = nI e → ∀ g' : zG, zMd g' m (va_up fi 34 0) ad fa → zNm g g' → K (some (.int 1)) g')
    (h0 : zIn x 0 (nI M - 1) = 0 ∨ zIn y 0 (nI n - 1) = 0 → ∀ g' : zG, zMd g' m (va_up fi 34 1) ad fa → zNm g g' → K (some (.int 0)) g') : zCal X (d + 2) yX3_asks wX3_asks [.ref m, .int x, .int y] g K KX := by
  have no : (zIn x 0 (nI M - 1) = 0 ∨ zIn y 0 (nI n - 1) = 0) → zIs g 3 m ∧ zCal X (d + 1) yX3_goes wX3_goes [.ref m, .int 0, .int 1, .int 1] g (fun r g_3 => ∃ v_4 : Int32, r = some (.int v_4) ∧ zbo v_4 ∧ zbo v_4 ∧ K (some (.int v_4)) g_3) KX := fun hf => ⟨hM.is, mp_goes2 hok hM (fun w => absurd w (by decide)) (fun _ g2 a1 a2 => ⟨0, rfl, Or.inl rfl, Or.inl rfl, h0 hf g2 a1 a2⟩)⟩
  refine mX3_asks (d := d + 1) hok m _ _ ⟨hM.is, mp_isMonitor hok hM ⟨_, rfl, zIn_b _ _ _, fun z => no (Or.inl ?_), fun z => ⟨hM.is, mp_isEvent hok hM ⟨_, rfl, zIn_b _ _ _, fun z2 => no (Or.inr ?_), fun z2 => ⟨hM.is, mp_goes2 hok hM (fun _ g2 a1 a2 => ⟨1, rfl, Or.inr rfl, Or.inr rfl, ?_⟩) (fun w => absurd (by decide) w)⟩⟩⟩⟩⟩
  · rw [h20] at z
    exact z
  · rw [h3] at z2
    exact z2
  · rw [h20] at z
    rw [h3] at z2
    obtain ⟨i, hi, e1⟩ := zIn_n (by omega) z
    obtain ⟨e, he, e2⟩ := zIn_n (by omega) z2
    exact h1 i e hi he e1 e2 g2 a1 a2
theorem mp_answer (hok : zOk X) (hM : zMd g m fi ad fa) {x y : Int32} {M n : Nat} (hm : M ≤ 6) (hn : n ≤ 80) (h20 : fi 20 = nI M) (h3 : fi 3 = nI n)
    (h1 : ∀ i e : Nat, i < M → e < n → x = nI i → y = nI e → ∀ g' : zG, zMd g' m (va_up fi 34 0) ad fa → zNm g g' → K (some (.int (fa 25 (80 * i + e)))) g')
    (h0 : zIn x 0 (nI M - 1) = 0 ∨ zIn y 0 (nI n - 1) = 0 → ∀ g' : zG, zMd g' m (va_up fi 34 1) ad fa → zNm g g' → K (some (.int 0)) g') : zCal X (d + 3) yX3_answer wX3_answer [.ref m, .int x, .int y] g K KX := by
  refine mX3_answer (d := d + 2) hok m _ _ ⟨hM.is, mp_asks (d := d) hok hM hm hn h20 h3 (fun i e hi he e1 e2 g2 a1 a2 => ⟨1, rfl, Or.inr rfl, fun w => absurd w (by decide), fun _ => ?_⟩) (fun z g2 a1 a2 => ⟨0, rfl, Or.inl rfl, fun _ => h0 z g2 a1 a2, fun w => absurd rfl w⟩)⟩
  rw [e1, e2, z80]
  refine ⟨_, _, a1.1, rfl, _, _, a1.2 25 (by decide), (zin 480 rfl (by omega) (by omega)), fun v hv => ?_⟩
  rw [nI_clamp (by omega)] at hv
  subst hv
  exact h1 i e hi he e1 e2 g2 a1 a2
theorem mp_answerAnew (hok : zOk X) (hM : zMd g m fi ad fa) {x y : Int32} {M n : Nat} (hm : M ≤ 6) (hn : n ≤ 80) (h20 : fi 20 = nI M) (h3 : fi 3 = nI n)
    (h1 : ∀ i e : Nat, i < M → e < n → x = nI i → y = nI e → ∀ g' : zG, zMd g' m (va_up fi 34 0) ad fa → zNm g g' → K (some (.int (fa 25 (80 * i + e)))) g')
    (h0 : zIn x 0 (nI M - 1) = 0 ∨ zIn y 0 (nI n - 1) = 0 → ∀ g' : zG, zMd g' m (va_up fi 34 1) ad fa → zNm g g' → K (some (.int 0)) g') : zCal X (d + 4) yX3_answerAnew wX3_answerAnew [.ref m, .int x, .int y] g K KX :=
  mX3_answerAnew (d := d + 3) hok m _ _ ⟨hM.is, mp_answer (d := d) hok hM hm hn h20 h3 (fun i e hi he e1 e2 g' a1 a2 => ⟨_, rfl, h1 i e hi he e1 e2 g' a1 a2⟩) (fun z g' a1 a2 => ⟨_, rfl, h0 z g' a1 a2⟩)⟩
theorem mp_knownSince (hok : zOk X) (hM : zMd g m fi ad fa) {x y : Int32} {M n : Nat} (hm : M ≤ 6) (hn : n ≤ 80) (h20 : fi 20 = nI M) (h3 : fi 3 = nI n)
    (h1 : ∀ i e : Nat, i < M → e < n → x = nI i → y = nI e → ∀ g' : zG, zMd g' m (va_up fi 34 0) ad fa → zNm g g' → K (some (.int (fa 26 (80 * i + e)))) g')
    (h0 : zIn x 0 (nI M - 1) = 0 ∨ zIn y 0 (nI n - 1) = 0 → ∀ g' : zG, zMd g' m (va_up fi 34 1) ad fa → zNm g g' → K (some (.int 0)) g') : zCal X (d + 3) yX3_knownSince wX3_knownSince [.ref m, .int x, .int y] g K KX := by
  refine mX3_knownSince (d := d + 2) hok m _ _ ⟨hM.is, mp_asks (d := d) hok hM hm hn h20 h3 (fun i e hi he e1 e2 g2 a1 a2 => ⟨1, rfl, Or.inr rfl, fun w => absurd w (by decide), fun _ => ?_⟩) (fun z g2 a1 a2 => ⟨0, rfl, Or.inl rfl, fun _ => h0 z g2 a1 a2, fun w => absurd rfl w⟩)⟩
  rw [e1, e2, z80]
  refine ⟨_, _, a1.1, rfl, _, _, a1.2 26 (by decide), (zin 480 rfl (by omega) (by omega)), fun v hv => ?_⟩
  rw [nI_clamp (by omega)] at hv
  subst hv
  exact h1 i e hi he e1 e2 g2 a1 a2
theorem mp_answers_l (hM : zMd g m fi ad fa) {i : Nat} {a : Int32} {n : Nat} (hi : i < 6) (hn : n ≤ 80) (h3 : fi 3 = nI n) {E : zM} (C : zC X (d + 1) E RX3 cX3_answers 5 (some .int) "answers") (hQ : zQ X E K KX) (hK : K (some (.int (zas fa i a n))) g) : ∀ (c k : Nat), n = k + c → GW X E 5 g 24 [(0, .ref m), (1, .int (nI i)), (2, .int a), (3, .int (zas fa i a k)), (4, .int (nI k))] []
  | 0, k, hc => by
    have : n = k := by omega
    subst this
    exact bX3_answers_24 (d := d) C hQ g m _ _ _ _ ⟨_, _, hM.1, rfl, fun _ => hK, fun z => absurd (show fi 3 ≤ nI n by rw [h3]; exact nI_le (by omega) (by omega)) z⟩
  | c + 1, k, hc => by
    have ih := mp_answers_l hM hi hn h3 C hQ hK c (k + 1) (by omega)
    unfold zas at ih
    refine bX3_answers_24 (d := d) C hQ g m _ _ _ _ ⟨_, _, hM.1, rfl, fun z => absurd z (by rw [h3]; exact nI_ge (by omega) (by omega)), fun _ => ?_⟩
    rw [z80, ← nI_succ]
    refine ⟨_, _, hM.1, rfl, _, _, hM.2 25 (by decide), (zin 480 rfl (by omega) (by omega)), fun v hv => ?_⟩
    rw [nI_clamp (by omega)] at hv
    subst hv
    refine ⟨fun z => ?_, fun z => ?_⟩
    · rw [if_neg z] at ih
      exact ih
    · rw [if_pos z] at ih
      exact ih
theorem mp_answers (hok : zOk X) (hM : zMd g m fi ad fa) {x a : Int32} {M n : Nat} (hm : M ≤ 6) (hn : n ≤ 80) (h20 : fi 20 = nI M) (h3 : fi 3 = nI n)
    (h1 : ∀ i : Nat, i < M → x = nI i → ¬ zIn a 0 2 = 0 → ∀ g' : zG, zMd g' m (va_up fi 34 0) ad fa → zNm g g' → K (some (.int (zas fa i a n))) g')
    (h0 : zth (zIn x 0 (nI M - 1)) (zIn a 0 2) 1 ≠ 0 → ∀ g' : zG, zMd g' m (va_up fi 34 (zth (zIn x 0 (nI M - 1)) (zIn a 0 2) 1)) ad fa → zNm g g' → K (some (.int 0)) g') : zCal X (d + 2) yX3_answers wX3_answers [.ref m, .int x, .int a] g K KX := by
  refine mX3_answers (d := d + 1) hok m _ _ (fun E C hQ => ⟨hM.is, mp_isMonitor hok hM ⟨_, rfl, zIn_b _ _ _, mp_isAnswer hok ⟨_, rfl, zIn_b _ _ _, hM.is, mp_goes2 hok hM (fun z g2 a1 a2 => ⟨1, rfl, Or.inr rfl, fun _ => ?_, fun w => absurd w (by decide)⟩) (fun z g2 a1 a2 => ⟨0, rfl, Or.inl rfl, fun w => absurd rfl w, fun _ => ?_⟩)⟩⟩⟩)
  · rw [h20] at z
    have z1 : ¬ zIn x 0 (nI M - 1) = 0 := fun w => by
      unfold zth at z
      rw [if_pos w] at z
      exact absurd z (by decide)
    have z2 : ¬ zIn a 0 2 = 0 := fun w => by
      unfold zth at z
      rw [if_neg z1, if_pos w] at z
      exact absurd z (by decide)
    obtain ⟨i, hi, rfl⟩ := zIn_n (by omega) z1
    have := mp_answers_l (d := d + 1) (i := i) (a := a) a1 (by omega) hn ((va_up_ne _ _ (by decide)).trans h3) C hQ (h1 i hi rfl z2 g2 a1 a2) n 0 (Nat.zero_add _).symm
    rw [nI_0] at this
    exact this
  · rw [h20] at z a1
    exact h0 z g2 a1 a2
theorem mp_takenBack (hok : zOk X) (hM : zMd g m fi ad fa) {v : Int32} {M : Nat} (hm : M ≤ 6) (h20 : fi 20 = nI M)
    (h1 : ∀ j : Nat, j < M → v = nI j → ∀ g' : zG, zMd g' m (va_up fi 34 0) ad fa → zNm g g' → K (some (.int (fa 24 j))) g')
    (h0 : zIn v 0 (nI M - 1) = 0 → ∀ g' : zG, zMd g' m (va_up fi 34 1) ad fa → zNm g g' → K (some (.int 0)) g') : zCal X (d + 2) yX3_takenBack wX3_takenBack [.ref m, .int v] g K KX := by
  refine mX3_takenBack (d := d + 1) hok m v ⟨hM.is, mp_isMonitor hok hM ⟨_, rfl, zIn_b _ _ _, hM.is, mp_goes2 hok hM (fun z g2 a1 a2 => ?_) (fun z g2 a1 a2 => ?_)⟩⟩
  · rw [h20] at z
    obtain ⟨j, hj, rfl⟩ := zIn_n (by omega) (zth1_0 z)
    refine ⟨_, rfl, Or.inr rfl, fun w => absurd w (by decide), fun _ => ⟨_, _, a1.1, rfl, _, _, a1.2 24 (by decide), (zin 6 rfl (by omega) (by omega)), fun w hw => ?_⟩⟩
    rw [nI_clamp (by omega)] at hw
    subst hw
    exact h1 j hj rfl g2 a1 a2
  · rw [h20] at z a1
    rw [(zth1_1 z).2] at a1
    exact ⟨_, rfl, Or.inl rfl, fun _ => h0 (zth1_1 z).1 g2 a1 a2, fun w => absurd rfl w⟩
end ASK
