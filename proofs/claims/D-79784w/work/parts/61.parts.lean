set_option maxRecDepth 100000
/-- the sum of the first k sizes -/
def zsum (sz : Nat → Nat) : Nat → Nat
  | 0 => 0
  | k + 1 => zsum sz k + sz k
/-- the size of what is made of the last k parts -/
def zsS (sz : Nat → Nat) (P : Nat) : Nat → Nat
  | 0 => 1
  | k + 1 => zsS sz P k + (if k < P then sz (P - 1 - k) else 0)
/-- whether something can be made of the last k parts -/
def zcM (sz : Nat → Nat) (P k : Nat) : Bool := decide (k ≤ P) && decide (zsS sz P k ≤ 24)
/-- the parts that are put: so many, their sizes -/
def zSk (fi : Nat → Int32) (fa : Nat → Nat → Int32) (P : Nat) (sz : Nat → Nat) : Prop :=
  fi 13 = nI P ∧ P ≤ 8 ∧ (∀ j : Nat, j < P → fa 14 j = nI (sz j) ∧ 1 ≤ sz j ∧ sz j ≤ 24) ∧ fi 15 = nI (zsum sz P) ∧ zwf fa 0 (zsum sz P) ∧ ∀ j : Nat, j < P → fa 19 (zsum sz (j + 1) - 1) = nI (sz j)
theorem zsum_le {sz : Nat → Nat} : ∀ P : Nat, (∀ j, j < P → sz j ≤ 24) → zsum sz P ≤ 24 * P
  | 0, _ => Nat.le_refl _
  | P + 1, h => by
    have := zsum_le P (fun j hj => h j (by omega))
    have := h P (by omega)
    unfold zsum
    omega
theorem zSk.le {fi : Nat → Int32} {fa : Nat → Nat → Int32} {P : Nat} {sz : Nat → Nat} (h : zSk fi fa P sz) : zsum sz P ≤ 192 := by
  have := zsum_le (sz := sz) P (fun j hj => (h.2.2.1 j hj).2.2)
  have := h.2.1
  omega
/-- what a part that is put leaves -/
def zp1 (fi : Nat → Int32) (q P : Nat) : Nat → Int32 := va_up (va_up fi 15 (nI (q + 1))) 13 (nI P)
def zp3 (fa : Nat → Nat → Int32) (q : Nat) (w n b s : Int32) : Nat → Nat → Int32 := va_up (va_up (va_up (va_up fa 16 (upd (fa 16) q w)) 17 (upd (fa 17) q n)) 18 (upd (fa 18) q b)) 19 (upd (fa 19) q s)
def zp2 (fa : Nat → Nat → Int32) (q : Nat) (w n b s : Int32) (p : Nat) : Nat → Nat → Int32 := va_up (zp3 fa q w n b s) 14 (upd (fa 14) p s)
section PTS
variable {X : zX} {d : Nat} {g : zG} {K : Option Value → zG → Prop} {KX : String → zG → Prop} {m : Nat} {fi : Nat → Int32} {ad : Nat → Nat} {fa : Nat → Nat → Int32} {P : Nat} {sz : Nat → Nat}
theorem mp_puts (hok : zOk X) (hM : zMd g m fi ad fa) {q : Nat} (h15 : fi 15 = nI q) (hq : q < 336) {w n b s : Int32}
    (hK : ∀ g' : zG, zMd g' m (va_up fi 15 (nI (q + 1))) ad (zp3 fa q w n b s) → zNm g g' → K none g') : zCal X d yX3_puts wX3_puts [.ref m, .int w, .int n, .int b, .int s] g K KX := by
  have hcl : (fi 15).toNatClampNeg = q := by rw [h15, nI_clamp (by omega)]
  refine mX3_puts hok m _ _ _ _ ⟨_, _, hM.1, rfl, _, _, hM.1, rfl, _, _, hM.2 16 (by decide), (by rw [h15]; exact (zin 336 rfl (by omega) (by omega))), fun g1 e1 => ?_⟩
  rw [hcl] at e1
  have M1 := hM.sa (j := 16) (by decide) e1
  refine ⟨_, _, M1.1, rfl, _, _, M1.1, rfl, _, _, M1.2 17 (by decide), (by rw [h15]; exact (zin 336 rfl (by omega) (by omega))), fun g2 e2 => ?_⟩
  rw [hcl] at e2
  have M2 := M1.sa (j := 17) (by decide) e2
  refine ⟨_, _, M2.1, rfl, _, _, M2.1, rfl, _, _, M2.2 18 (by decide), (by rw [h15]; exact (zin 336 rfl (by omega) (by omega))), fun g3 e3 => ?_⟩
  rw [hcl] at e3
  have M3 := M2.sa (j := 18) (by decide) e3
  refine ⟨_, _, M3.1, rfl, _, _, M3.1, rfl, _, _, M3.2 19 (by decide), (by rw [h15]; exact (zin 336 rfl (by omega) (by omega))), fun g4 e4 => ?_⟩
  rw [hcl] at e4
  have M4 := M3.sa (j := 19) (by decide) e4
  refine ⟨_, _, M4.1, rfl, _, M4.1, by simp [zMf], fun g5 e5 => ?_⟩
  have M5 := M4.si (j := 15) e5 (by decide)
  rw [h15, ← nI_succ] at M5
  exact hK g5 M5 (((((zNm.sa (j := 16) (by decide) e1).trans (zNm.sa (j := 17) (by decide) e2)).trans (zNm.sa (j := 18) (by decide) e3)).trans (zNm.sa (j := 19) (by decide) e4)).trans (zNm.si e5))
theorem mp_lays (hok : zOk X) (hM : zMd g m fi ad fa) (hS : zSk fi fa P sz) (hP : P < 8) {w n b : Int32}
    (hK : ∀ g' : zG, zMd g' m (zp1 fi (zsum sz P) (P + 1)) ad (zp2 fa (zsum sz P) w n b 1 P) → zNm g g' → K (some (.int (nI (P + 1)))) g') : zCal X (d + 1) yX3_lays wX3_lays [.ref m, .int w, .int n, .int b] g K KX := by
  obtain ⟨s1, s2, s3, s4, s5⟩ := id hS
  have hle := hS.le
  refine mX3_lays hok m _ _ _ ⟨hM.is, mp_puts hok hM s4 (by omega) (fun g1 a1 a2 => ⟨rfl, ?_⟩)⟩
  have e13 : va_up fi 15 (nI (zsum sz P + 1)) 13 = nI P := (va_up_ne _ _ (by decide)).trans s1
  have hcl : (va_up fi 15 (nI (zsum sz P + 1)) 13).toNatClampNeg = P := by rw [e13, nI_clamp (by omega)]
  refine ⟨_, _, a1.1, rfl, _, _, a1.1, rfl, _, _, a1.2 14 (by decide), (by rw [e13]; exact (zin 8 rfl (by omega) (by omega))), fun g2 e2 => ?_⟩
  rw [hcl] at e2
  have M2 := a1.sa (j := 14) (by decide) e2
  refine ⟨_, _, M2.1, rfl, _, M2.1, by simp [zMf], fun g3 e3 => ?_⟩
  have M3 := M2.si (j := 13) e3 (by decide)
  refine ⟨_, _, M3.1, rfl, ?_⟩
  rw [e13, ← nI_succ] at M3 ⊢
  rw [va_up_self]
  exact hK g3 M3 ((a2.trans (zNm.sa (j := 14) (by decide) e2)).trans (zNm.si e3))
theorem zcM_t {sz : Nat → Nat} {P k : Nat} (h1 : k ≤ P) (h2 : zsS sz P k ≤ 24) : zcM sz P k = true := by
  unfold zcM
  rw [decide_eq_true h1, decide_eq_true h2]
  rfl
theorem zcM_f {sz : Nat → Nat} {P k : Nat} (h : ¬ (k ≤ P ∧ zsS sz P k ≤ 24)) : zcM sz P k = false := by
  unfold zcM
  by_cases h1 : k ≤ P
  · rw [decide_eq_false (fun z => h ⟨h1, z⟩), Bool.and_false]
  · rw [decide_eq_false h1, Bool.false_and]
theorem zcM_i {sz : Nat → Nat} {P k : Nat} (h : zcM sz P k = true) : k ≤ P ∧ zsS sz P k ≤ 24 := by
  unfold zcM at h
  rw [Bool.and_eq_true] at h
  exact ⟨of_decide_eq_true h.1, of_decide_eq_true h.2⟩
theorem zsS_le {sz : Nat → Nat} {P : Nat} (h : ∀ j, j < P → sz j ≤ 24) : ∀ k : Nat, zsS sz P k ≤ 1 + 24 * k
  | 0 => Nat.le_refl _
  | k + 1 => by
    have := zsS_le h k
    unfold zsS
    split
    · have := h (P - 1 - k) (by omega)
      omega
    · omega
theorem mp_canMake_l (hM : zMd g m fi ad fa) (hS : zSk fi fa P sz) {s : Nat} (hs : s ≤ 2) {E : zM} (C : zC X d E RX3 cX3_canMake 4 (some .boolean) "canMake") (hQ : zQ X E K KX) (hK : K (some (.int (zbI (zcM sz P s)))) g) : ∀ (c k : Nat), s = k + c → k ≤ P → GW X E 4 g 4 [(0, .ref m), (1, .int (nI s)), (2, .int (nI (zsS sz P k))), (3, .int (nI k))] []
  | 0, k, hc, hk => by
    have : s = k := by omega
    subst this
    obtain ⟨s1, s2, s3, s4, s5⟩ := hS
    have hle := zsS_le (sz := sz) (P := P) (fun j hj => (s3 j hj).2.2) s
    refine bX3_canMake_4 C hQ g m _ _ _ ⟨fun _ => ⟨_, _, hM.1, rfl, fun z => absurd z (by rw [s1]; exact nI_nlt hk (by omega)), fun _ => ⟨fun z => ?_, fun z => ?_⟩⟩, fun z => absurd (nI_le (Nat.le_refl _) (by omega)) z⟩
    · have := (nI_ltI (a := 24) (by omega) (by omega)).mp z
      rw [zcM_f (fun w => by omega)] at hK
      exact hK
    · have := mt (nI_ltI (a := 24) (b := zsS sz P s) (by omega) (by omega)).mpr z
      rw [zcM_t hk (by omega)] at hK
      exact hK
  | c + 1, k, hc, hk => by
    have hS0 := hS
    obtain ⟨s1, s2, s3, s4, s5⟩ := hS
    refine bX3_canMake_4 C hQ g m _ _ _ ⟨fun z => absurd z (nI_ge (by omega) (by omega)), fun _ => ⟨_, _, hM.1, rfl, fun z => ⟨_, _, hM.1, rfl, fun _ => ?_, fun z2 => ?_⟩, fun z => ⟨_, _, hM.1, rfl, _, _, hM.1, rfl, ?_⟩⟩⟩
    · rw [s1] at z
      have := (nI_leI (by omega) (by omega)).mp z
      rw [zcM_f (fun w => by omega)] at hK
      exact hK
    · rw [s1] at z z2
      have := (nI_leI (by omega) (by omega)).mp z
      exact absurd (nI_lt (by omega) (by omega)) z2
    · rw [s1] at z ⊢
      have h1 := mt (nI_leI (by omega) (by omega)).mpr z
      have e1 : nI P - 1 - nI k = nI (P - 1 - k) := by
        obtain ⟨P', rfl⟩ : ∃ P', P = P' + 1 := ⟨P - 1, by omega⟩
        rw [nI_pred, Nat.add_sub_cancel]
        exact pk_sub (by omega)
      rw [e1]
      refine ⟨_, _, hM.2 14 (by decide), zin 8 rfl (by omega) (by omega), fun v hv => ?_⟩
      rw [nI_clamp (by omega), (s3 (P - 1 - k) (by omega)).1] at hv
      subst hv
      rw [nI_add, ← nI_succ]
      have ih := mp_canMake_l hM hS0 hs C hQ hK c (k + 1) (by omega) (by omega)
      unfold zsS at ih
      rw [if_pos (by omega)] at ih
      exact ih
theorem mp_canMake (hok : zOk X) (hM : zMd g m fi ad fa) (hS : zSk fi fa P sz) {s : Nat} (hs : s ≤ 2) (hK : K (some (.int (zbI (zcM sz P s)))) g) : zCal X d yX3_canMake wX3_canMake [.ref m, .int (nI s)] g K KX := by
  refine mX3_canMake hok m _ (fun E C hQ => ?_)
  have := mp_canMake_l hM hS hs C hQ hK s 0 (Nat.zero_add _).symm (Nat.zero_le _)
  rw [nI_0] at this
  exact this
theorem mp_makes_l (hok : zOk X) (hM : zMd g m fi ad fa) (hS : zSk fi fa P sz) {s : Nat} (hs : 1 ≤ s) (hsP : s ≤ P) {w n b : Int32} {E : zM} (C : zC X (d + 1) E RX3 cX3_makes 7 (some .int) "makes") (hQ : zQ X E K KX)
    (hK : ∀ g' : zG, zMd g' m (zp1 fi (zsum sz P) (P + 1 - s)) ad (zp2 fa (zsum sz P) w n b (nI (zsS sz P s)) (P - s)) → zNm g g' → K (some (.int (nI (P + 1 - s)))) g') : ∀ (c k : Nat), s = k + c → GW X E 7 g 6 [(0, .ref m), (1, .int w), (2, .int (nI s)), (3, .int n), (4, .int b), (5, .int (nI (zsS sz P k))), (6, .int (nI k))] []
  | 0, k, hc => by
    have : s = k := by omega
    subst this
    obtain ⟨s1, s2, s3, s4, s5⟩ := id hS
    have hle := hS.le
    refine bX3_makes_6 (d := d) C hQ g m _ _ _ _ _ _ ⟨fun _ => ⟨hM.is, mp_puts hok hM s4 (by omega) (fun g1 a1 a2 => ⟨rfl, _, _, a1.1, rfl, _, a1.1, by simp [zMf], fun g2 e2 => ?_⟩)⟩, fun z => absurd (nI_le (Nat.le_refl _) (by omega)) z⟩
    have M2 := a1.si (j := 13) e2 (by decide)
    have e13 : va_up fi 15 (nI (zsum sz P + 1)) 13 - (nI s - 1) = nI (P + 1 - s) := by
      rw [va_up_ne _ _ (by decide), s1]
      obtain ⟨s', rfl⟩ : ∃ s', s = s' + 1 := ⟨s - 1, by omega⟩
      rw [nI_pred, pk_sub (by omega)]
      congr 1
      omega
    rw [e13] at M2
    have ePs : nI (P + 1 - s) - 1 = nI (P - s) := by
      rw [show P + 1 - s = (P - s) + 1 by omega, nI_pred]
    refine ⟨_, _, M2.1, rfl, _, _, M2.1, rfl, ?_⟩
    rw [va_up_self, ePs]
    refine ⟨_, _, M2.2 14 (by decide), zin 8 rfl (by omega) (by omega), fun g3 e3 => ?_⟩
    rw [nI_clamp (by omega)] at e3
    have M3 := M2.sa (j := 14) (by decide) e3
    refine ⟨_, _, M3.1, rfl, ?_⟩
    rw [va_up_self]
    exact hK g3 M3 ((a2.trans (zNm.si e2)).trans (zNm.sa (j := 14) (by decide) e3))
  | c + 1, k, hc => by
    obtain ⟨s1, s2, s3, s4, s5⟩ := id hS
    refine bX3_makes_6 (d := d) C hQ g m _ _ _ _ _ _ ⟨fun z => absurd z (nI_ge (by omega) (by omega)), fun _ => ⟨_, _, hM.1, rfl, _, _, hM.1, rfl, ?_⟩⟩
    have e1 : nI P - 1 - nI k = nI (P - 1 - k) := by
      obtain ⟨P', rfl⟩ : ∃ P', P = P' + 1 := ⟨P - 1, by omega⟩
      rw [nI_pred, Nat.add_sub_cancel]
      exact pk_sub (by omega)
    rw [s1, e1]
    refine ⟨_, _, hM.2 14 (by decide), zin 8 rfl (by omega) (by omega), fun v hv => ?_⟩
    rw [nI_clamp (by omega), (s3 (P - 1 - k) (by omega)).1] at hv
    subst hv
    rw [nI_add, ← nI_succ]
    have ih := mp_makes_l hok hM hS hs hsP C hQ hK c (k + 1) (by omega)
    unfold zsS at ih
    rw [if_pos (by omega)] at ih
    exact ih
theorem mp_makes (hok : zOk X) (hM : zMd g m fi ad fa) (hS : zSk fi fa P sz) {s : Nat} (hs : 1 ≤ s) (hsP : s ≤ P) {w n b : Int32}
    (hK : ∀ g' : zG, zMd g' m (zp1 fi (zsum sz P) (P + 1 - s)) ad (zp2 fa (zsum sz P) w n b (nI (zsS sz P s)) (P - s)) → zNm g g' → K (some (.int (nI (P + 1 - s)))) g') : zCal X (d + 1) yX3_makes wX3_makes [.ref m, .int w, .int (nI s), .int n, .int b] g K KX := by
  refine mX3_makes hok m _ _ _ _ (fun E C hQ => ?_)
  have := mp_makes_l hok hM hS hs hsP C hQ hK s 0 (Nat.zero_add _).symm
  rw [nI_0] at this
  exact this
theorem zSk.f34 {fi : Nat → Int32} {fa : Nat → Nat → Int32} {P : Nat} {sz : Nat → Nat} (h : zSk fi fa P sz) (v : Int32) : zSk (va_up fi 34 v) fa P sz := ⟨(va_up_ne _ _ (by decide)).trans h.1, h.2.1, h.2.2.1, (va_up_ne _ _ (by decide)).trans h.2.2.2.1, h.2.2.2.2⟩
/-- joins and binds and many, in one: something is made of the last s parts, if all may be -/
def zmk (m : Nat) (fi : Nat → Int32) (ad : Nat → Nat) (fa : Nat → Nat → Int32) (P : Nat) (sz : Nat → Nat) (g : zG) (K : Option Value → zG → Prop) (ok : Bool) (s : Nat) (w n b : Int32) (e : Int32) : Prop :=
  ((ok = true ∧ zcM sz P s = true) → ∀ g' : zG, zMd g' m (zp1 (va_up fi 34 0) (zsum sz P) (P + 1 - s)) ad (zp2 fa (zsum sz P) w n b (nI (zsS sz P s)) (P - s)) → zNm g g' → K (some (.int (nI (P + 1 - s)))) g') ∧
  (¬ (ok = true ∧ zcM sz P s = true) → ∀ g' : zG, zMd g' m (va_up fi 34 (if ok = true then e else 1)) ad fa → zNm g g' → K (some (.int 0)) g')
theorem zmk_p {fi : Nat → Int32} {fa : Nat → Nat → Int32} (hS : zSk fi fa P sz) {s : Nat} {w n b e : Int32} {ok : Bool} (h : zmk m fi ad fa P sz g K ok s w n b e) (hok : zOk X) (hs : 1 ≤ s) {g1 : zG} (hc : ok = true ∧ zcM sz P s = true) (hM : zMd g1 m (va_up fi 34 0) ad fa) (hN : zNm g g1) : zCal X (d + 1) yX3_makes wX3_makes [.ref m, .int w, .int (nI s), .int n, .int b] g1 (fun r g' => ∃ v : Int32, r = some (.int v) ∧ K (some (.int v)) g') KX :=
  mp_makes hok hM (hS.f34 0) hs (zcM_i hc.2).1 (fun g' a1 a2 => ⟨_, rfl, h.1 hc g' a1 (hN.trans a2)⟩)
theorem zbI_0 {b : Bool} : zbI b = 0 ↔ b = false := by cases b <;> decide
theorem mp_joins (hok : zOk X) (hM : zMd g m fi ad fa) (hS : zSk fi fa P sz) {s : Nat} (hs1 : 1 ≤ s) (hs : s ≤ 2) {w : Int32} (h : zmk m fi ad fa P sz g K true s w 0 0 1) : zCal X (d + 2) yX3_joins wX3_joins [.ref m, .int w, .int (nI s)] g K KX := by
  refine mX3_joins (d := d + 1) hok m _ _ ⟨hM.is, mp_canMake hok hM hS hs ⟨_, rfl, zbI_b _, hM.is, mp_goes2 hok hM (fun z g1 a1 a2 => ⟨1, rfl, Or.inr rfl, fun w => absurd w (by decide), fun _ => ⟨a1.is, zmk_p hS h hok hs1 ⟨rfl, ?_⟩ a1 a2⟩⟩) (fun z g1 a1 a2 => ⟨0, rfl, Or.inl rfl, fun _ => ?_, fun w => absurd rfl w⟩)⟩⟩
  · rw [zth1] at z
    cases hb : zcM sz P s with
    | true => rfl
    | false =>
      rw [hb] at z
      exact absurd z (by decide)
  · rw [zth1] at z a1
    cases hb : zcM sz P s with
    | true =>
      rw [hb] at z
      exact absurd rfl z
    | false =>
      rw [hb] at a1
      exact h.2 (fun q => by rw [hb] at q; exact absurd q.2 (by decide)) g1 a1 a2
theorem mp_binds (hok : zOk X) (hM : zMd g m fi ad fa) (hS : zSk fi fa P sz) {s : Nat} (hs1 : 1 ≤ s) (hs : s ≤ 2) {w b : Int32} (h : zmk m fi ad fa P sz g K (!(zIn b (-1) 1000 == 0)) s w 0 b 2) : zCal X (d + 2) yX3_binds wX3_binds [.ref m, .int w, .int (nI s), .int b] g K KX := by
  refine mX3_binds (d := d + 1) hok m _ _ _ (mp_isBound hok ⟨_, rfl, zIn_b _ _ _, hM.is, mp_canMake hok hM hS hs ⟨_, rfl, zbI_b _, hM.is, mp_goes2 hok hM (fun z g1 a1 a2 => ⟨1, rfl, Or.inr rfl, fun w => absurd w (by decide), fun _ => ⟨a1.is, zmk_p hS h hok hs1 ?_ a1 a2⟩⟩) (fun z g1 a1 a2 => ⟨0, rfl, Or.inl rfl, fun _ => ?_, fun w => absurd rfl w⟩)⟩⟩)
  · by_cases c : zIn b (-1) 1000 = 0
    · unfold zth at z
      rw [if_pos c] at z
      exact absurd z (by decide)
    · refine ⟨by simpa using c, ?_⟩
      unfold zth at z
      rw [if_neg c] at z
      cases hb : zcM sz P s with
      | true => rfl
      | false =>
        rw [hb] at z
        exact absurd z (by decide)
  · by_cases c : zIn b (-1) 1000 = 0
    · refine h.2 (fun q => by simp [c] at q) g1 ?_ a2
      unfold zth at a1
      rw [if_pos c] at a1
      simpa [c] using a1
    · unfold zth at z a1
      rw [if_neg c] at z a1
      cases hb : zcM sz P s with
      | true =>
        rw [hb] at z
        exact absurd rfl z
      | false =>
        rw [hb] at a1
        refine h.2 (fun q => by rw [hb] at q; exact absurd q.2 (by decide)) g1 ?_ a2
        have c' : (!(zIn b (-1) 1000 == 0)) = true := by simpa using c
        rw [if_pos c']
        exact a1
theorem mp_not_2 (hok : zOk X) (hM : zMd g m fi ad fa) (hS : zSk fi fa P sz) (h : zmk m fi ad fa P sz g K true 1 2 0 0 1) : zCal X (d + 3) yX3_not_2 wX3_not_2 [.ref m] g K KX :=
  mX3_not_2 (d := d + 2) hok m ⟨hM.is, mp_joins (s := 1) hok hM hS (by omega) (by omega) ⟨fun a g' b c => ⟨_, rfl, h.1 a g' b c⟩, fun a g' b c => ⟨_, rfl, h.2 a g' b c⟩⟩⟩
theorem mp_both (hok : zOk X) (hM : zMd g m fi ad fa) (hS : zSk fi fa P sz) (h : zmk m fi ad fa P sz g K true 2 3 0 0 1) : zCal X (d + 3) yX3_both wX3_both [.ref m] g K KX :=
  mX3_both (d := d + 2) hok m ⟨hM.is, mp_joins (s := 2) hok hM hS (by omega) (by omega) ⟨fun a g' b c => ⟨_, rfl, h.1 a g' b c⟩, fun a g' b c => ⟨_, rfl, h.2 a g' b c⟩⟩⟩
theorem mp_either (hok : zOk X) (hM : zMd g m fi ad fa) (hS : zSk fi fa P sz) (h : zmk m fi ad fa P sz g K true 2 4 0 0 1) : zCal X (d + 3) yX3_either wX3_either [.ref m] g K KX :=
  mX3_either (d := d + 2) hok m ⟨hM.is, mp_joins (s := 2) hok hM hS (by omega) (by omega) ⟨fun a g' b c => ⟨_, rfl, h.1 a g' b c⟩, fun a g' b c => ⟨_, rfl, h.2 a g' b c⟩⟩⟩
theorem mp_before (hok : zOk X) (hM : zMd g m fi ad fa) (hS : zSk fi fa P sz) (h : zmk m fi ad fa P sz g K true 1 5 0 0 1) : zCal X (d + 3) yX3_before wX3_before [.ref m] g K KX :=
  mX3_before (d := d + 2) hok m ⟨hM.is, mp_joins (s := 1) hok hM hS (by omega) (by omega) ⟨fun a g' b c => ⟨_, rfl, h.1 a g' b c⟩, fun a g' b c => ⟨_, rfl, h.2 a g' b c⟩⟩⟩
theorem mp_next (hok : zOk X) (hM : zMd g m fi ad fa) (hS : zSk fi fa P sz) (h : zmk m fi ad fa P sz g K true 1 8 0 0 1) : zCal X (d + 3) yX3_next wX3_next [.ref m] g K KX :=
  mX3_next (d := d + 2) hok m ⟨hM.is, mp_joins (s := 1) hok hM hS (by omega) (by omega) ⟨fun a g' b c => ⟨_, rfl, h.1 a g' b c⟩, fun a g' b c => ⟨_, rfl, h.2 a g' b c⟩⟩⟩
theorem mp_since (hok : zOk X) (hM : zMd g m fi ad fa) (hS : zSk fi fa P sz) {b : Int32} (h : zmk m fi ad fa P sz g K (!(zIn b (-1) 1000 == 0)) 2 6 0 b 2) : zCal X (d + 3) yX3_since wX3_since [.ref m, .int b] g K KX :=
  mX3_since (d := d + 2) hok m b ⟨hM.is, mp_binds (s := 2) hok hM hS (by omega) (by omega) ⟨fun a g' b c => ⟨_, rfl, h.1 a g' b c⟩, fun a g' b c => ⟨_, rfl, h.2 a g' b c⟩⟩⟩
theorem mp_once (hok : zOk X) (hM : zMd g m fi ad fa) (hS : zSk fi fa P sz) {b : Int32} (h : zmk m fi ad fa P sz g K (!(zIn b (-1) 1000 == 0)) 1 7 0 b 2) : zCal X (d + 3) yX3_once wX3_once [.ref m, .int b] g K KX :=
  mX3_once (d := d + 2) hok m b ⟨hM.is, mp_binds (s := 1) hok hM hS (by omega) (by omega) ⟨fun a g' b c => ⟨_, rfl, h.1 a g' b c⟩, fun a g' b c => ⟨_, rfl, h.2 a g' b c⟩⟩⟩
theorem mp_until (hok : zOk X) (hM : zMd g m fi ad fa) (hS : zSk fi fa P sz) {b : Int32} (h : zmk m fi ad fa P sz g K (!(zIn b (-1) 1000 == 0)) 2 9 0 b 2) : zCal X (d + 3) yX3_until wX3_until [.ref m, .int b] g K KX :=
  mX3_until (d := d + 2) hok m b ⟨hM.is, mp_binds (s := 2) hok hM hS (by omega) (by omega) ⟨fun a g' b c => ⟨_, rfl, h.1 a g' b c⟩, fun a g' b c => ⟨_, rfl, h.2 a g' b c⟩⟩⟩
theorem mp_soon (hok : zOk X) (hM : zMd g m fi ad fa) (hS : zSk fi fa P sz) {b : Int32} (h : zmk m fi ad fa P sz g K (!(zIn b (-1) 1000 == 0)) 1 10 0 b 2) : zCal X (d + 3) yX3_soon wX3_soon [.ref m, .int b] g K KX :=
  mX3_soon (d := d + 2) hok m b ⟨hM.is, mp_binds (s := 1) hok hM hS (by omega) (by omega) ⟨fun a g' b c => ⟨_, rfl, h.1 a g' b c⟩, fun a g' b c => ⟨_, rfl, h.2 a g' b c⟩⟩⟩
theorem mp_many_23 (hok : zOk X) (hM : zMd g m fi ad fa) (hS : zSk fi fa P sz) {n b : Int32} {ok : Bool} (h : zmk m fi ad fa P sz g K ok 1 11 n b 2) {E : zM} (C : zC X (d + 2) E RX3 cX3_many 3 (some .int) "many") (hQ : zQ X E K KX) : GW X E 3 g 23 [(0, .ref m), (1, .int n), (2, .int b)] [.int (zbI ok), .ref m] := by
  refine bX3_many_23 (d := d + 1) C hQ g m _ _ _ _ ⟨hM.is, mp_canMake (s := 1) hok hM hS (by omega) ⟨_, rfl, zbI_b _, hM.is, mp_goes2 hok hM (fun z g1 a1 a2 => ⟨1, rfl, Or.inr rfl, fun w => absurd w (by decide), fun _ => ⟨a1.is, zmk_p (s := 1) hS h hok (by omega) ?_ a1 a2⟩⟩) (fun z g1 a1 a2 => ⟨0, rfl, Or.inl rfl, fun _ => ?_, fun w => absurd rfl w⟩)⟩⟩
  · cases ok with
    | false => exact absurd z (by unfold zth zbI; simp)
    | true =>
      refine ⟨rfl, ?_⟩
      cases hb : zcM sz P 1 with
      | true => rfl
      | false =>
        rw [hb] at z
        exact absurd z (by decide)
  · cases ok with
    | false =>
      refine h.2 (fun q => absurd q.1 (by decide)) g1 ?_ a2
      exact a1
    | true =>
      cases hb : zcM sz P 1 with
      | true =>
        rw [hb] at z
        exact absurd rfl z
      | false =>
        rw [hb] at a1
        exact h.2 (fun q => by rw [hb] at q; exact absurd q.2 (by decide)) g1 a1 a2
theorem mp_many (hok : zOk X) (hM : zMd g m fi ad fa) (hS : zSk fi fa P sz) {n b : Int32} (h : zmk m fi ad fa P sz g K (!(zIn n 1 80 == 0) && !(zIn b (-1) 1000 == 0)) 1 11 n b 2) : zCal X (d + 2) yX3_many wX3_many [.ref m, .int n, .int b] g K KX := by
  refine mX3_many (d := d + 1) hok m _ _ (fun E C hQ => mp_in hok ⟨_, rfl, zIn_b _ _ _, fun z => ?_, fun z => mp_isBound hok ⟨_, rfl, zIn_b _ _ _, fun z2 => ?_, fun z2 => ?_⟩⟩)
  · refine bX3_many_22 (d := d + 1) C hQ g m _ _ _ ?_
    rw [show (!(zIn n 1 80 == 0) && !(zIn b (-1) 1000 == 0)) = false by simp [z]] at h
    exact mp_many_23 (d := d) hok hM hS h C hQ
  · refine bX3_many_22 (d := d + 1) C hQ g m _ _ _ ?_
    rw [show (!(zIn n 1 80 == 0) && !(zIn b (-1) 1000 == 0)) = false by simp [z2]] at h
    exact mp_many_23 (d := d) hok hM hS h C hQ
  · rw [show (!(zIn n 1 80 == 0) && !(zIn b (-1) 1000 == 0)) = true by simp [z, z2]] at h
    exact mp_many_23 (d := d) hok hM hS h C hQ
/-- kindIs and valueIs: a part is laid -/
def zly (m : Nat) (fi : Nat → Int32) (ad : Nat → Nat) (fa : Nat → Nat → Int32) (P : Nat) (sz : Nat → Nat) (g : zG) (K : Option Value → zG → Prop) (ok : Bool) (w n b : Int32) : Prop :=
  (ok = true → P < 8 → ∀ g' : zG, zMd g' m (zp1 (va_up fi 34 0) (zsum sz P) (P + 1)) ad (zp2 fa (zsum sz P) w n b 1 P) → zNm g g' → K (some (.int (nI (P + 1)))) g') ∧
  (¬ (ok = true ∧ P < 8) → ∀ g' : zG, zMd g' m (va_up fi 34 (if ok = true then 2 else 1)) ad fa → zNm g g' → K (some (.int 0)) g')
theorem mp_lys (hok : zOk X) (hM : zMd g m fi ad fa) (hS : zSk fi fa P sz) {w n b t1 t2 : Int32} {ok : Bool} (h : zly m fi ad fa P sz g K ok w n b) (h1 : t1 = 0 ↔ ok = false) (h2 : t2 = if P < 8 then 1 else 0) : zCal X (d + 2) yX3_goes wX3_goes [.ref m, .int t1, .int t2, .int 1] g (fun r g_1 => ∃ v_2 : Int32, r = some (.int v_2) ∧ zbo v_2 ∧ (v_2 = 0 → K (some (.int 0)) g_1) ∧ (¬ v_2 = 0 → zIs g_1 3 m ∧ zCal X (d + 2) yX3_lays wX3_lays [.ref m, .int w, .int n, .int b] g_1 (fun r g_3 => ∃ v_4 : Int32, r = some (.int v_4) ∧ K (some (.int v_4)) g_3) KX)) KX := by
  have key : zth t1 t2 1 = if ok = true then if P < 8 then 0 else 2 else 1 := by
    unfold zth
    cases ok with
    | false => rw [if_pos (h1.mpr rfl)]; rfl
    | true =>
      rw [if_neg (fun z => absurd (h1.mp z) (by decide)), h2]
      by_cases c : P < 8
      · simp [c]
      · simp [c]
  refine mp_goes2 hok hM (fun z g1 a1 a2 => ⟨1, rfl, Or.inr rfl, fun w => absurd w (by decide), fun _ => ⟨a1.is, ?_⟩⟩) (fun z g1 a1 a2 => ⟨0, rfl, Or.inl rfl, fun _ => ?_, fun w => absurd rfl w⟩)
  · rw [key] at z
    cases ok with
    | false => exact absurd z (by simp)
    | true =>
      by_cases c : P < 8
      · exact mp_lays (d := d + 1) hok a1 (hS.f34 0) c (fun g2 b1 b2 => ⟨_, rfl, h.1 rfl c g2 b1 (a2.trans b2)⟩)
      · rw [if_pos rfl, if_neg c] at z
        exact absurd z (by decide)
  · rw [key] at z a1
    cases ok with
    | false => exact h.2 (fun q => absurd q.1 (by decide)) g1 a1 a2
    | true =>
      by_cases c : P < 8
      · rw [if_pos rfl, if_pos c] at z
        exact absurd rfl z
      · rw [if_pos rfl, if_neg c] at a1
        exact h.2 (fun q => c q.2) g1 a1 a2
theorem zSk.t8 (hS : zSk fi fa P sz) : (8 ≤ fi 13 ↔ ¬ P < 8) := by
  rw [hS.1, show (8 : Int32) = nI 8 from rfl, nI_leI (by omega) (by have := hS.2.1; omega)]
  omega
theorem mp_kindIs (hok : zOk X) (hM : zMd g m fi ad fa) (hS : zSk fi fa P sz) {v : Int32} (h : zly m fi ad fa P sz g K (!(zIn v 0 7 == 0)) 0 v 0) : zCal X (d + 3) yX3_kindIs wX3_kindIs [.ref m, .int v] g K KX := by
  refine mX3_kindIs (d := d + 2) hok m _ (fun E C hQ => mp_isKind hok ⟨_, rfl, zIn_b _ _ _, _, _, hM.1, rfl, fun z => ?_, fun z => ?_⟩)
  · exact bX3_kindIs_19 (d := d + 2) C hQ g m _ m _ _ ⟨hM.is, mp_lys hok hM hS h (by simp) (by rw [if_neg ((hS.t8).mp z)])⟩
  · exact bX3_kindIs_19 (d := d + 2) C hQ g m _ m _ _ ⟨hM.is, mp_lys hok hM hS h (by simp) (by rw [if_pos (Decidable.not_not.mp (fun q => z ((hS.t8).mpr q)))])⟩
theorem mp_valueIs (hok : zOk X) (hM : zMd g m fi ad fa) (hS : zSk fi fa P sz) {v u : Int32} (h : zly m fi ad fa P sz g K (!(zIn v 0 2 == 0) && !(zIn u (-1000) 1000 == 0)) 1 v u) : zCal X (d + 3) yX3_valueIs wX3_valueIs [.ref m, .int v, .int u] g K KX := by
  refine mX3_valueIs (d := d + 2) hok m _ _ (fun E C hQ => ?_)
  have fin : ∀ t1 : Int32, (t1 = 0 ↔ (!(zIn v 0 2 == 0) && !(zIn u (-1000) 1000 == 0)) = false) → GW X E 3 g 28 [(0, .ref m), (1, .int v), (2, .int u)] [.int t1, .ref m] := by
    intro t1 ht
    refine bX3_valueIs_28 (d := d + 2) C hQ g m _ _ m _ ⟨_, _, hM.1, rfl, fun z => ?_, fun z => ?_⟩
    · exact bX3_valueIs_42 (d := d + 2) C hQ g m _ _ m _ _ ⟨hM.is, mp_lys hok hM hS h ht (by rw [if_neg ((hS.t8).mp z)])⟩
    · exact bX3_valueIs_42 (d := d + 2) C hQ g m _ _ m _ _ ⟨hM.is, mp_lys hok hM hS h ht (by rw [if_pos (Decidable.not_not.mp (fun q => z ((hS.t8).mpr q)))])⟩
  refine mp_in hok ⟨_, rfl, zIn_b _ _ _, fun z => ?_, fun z => mp_in hok ⟨_, rfl, zIn_b _ _ _, fun z2 => ?_, fun z2 => ?_⟩⟩
  · exact bX3_valueIs_27 (d := d + 2) C hQ g m _ _ m (fin 0 (by simp [z]))
  · exact bX3_valueIs_27 (d := d + 2) C hQ g m _ _ m (fin 0 (by simp [z2]))
  · exact fin 1 (by simp [z, z2])
end PTS
