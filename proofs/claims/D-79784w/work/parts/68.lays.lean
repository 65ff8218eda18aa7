set_option maxRecDepth 100000
/-- by one less -/
def zl1 (f : Nat → Nat) : Nat → Nat
  | 0 => 0
  | k + 1 => f k
theorem zl1_pas (x y : Nat) (h : 0 < x + y) : zTT x y = zl1 (fun x' => zTT x' y) x + zl1 (fun y' => zTT x y') y := by
  cases x with
  | zero =>
    cases y with
    | zero => omega
    | succ y => rfl
  | succ x =>
    cases y with
    | zero =>
      show zTT (x + 1) 0 = zTT x 0 + 0
      rw [zTT_r, zTT_r]
    | succ y => rfl
theorem zM4_p (a b c e : Nat) (h : 0 < a + b + c + e) : zM4 a b c e = zl1 (fun a' => zM4 a' b c e) a + zl1 (fun b' => zM4 a b' c e) b + zl1 (fun c' => zM4 a b c' e) c + zl1 (fun e' => zM4 a b c e') e := by
  have h3 : zTT (a + b + c) e = zl1 (fun x' => zTT x' e) (a + b + c) + zl1 (fun y' => zTT (a + b + c) y') e := zl1_pas _ _ h
  have e4 : zl1 (fun e' => zM4 a b c e') e = zTT a b * zTT (a + b) c * zl1 (fun y' => zTT (a + b + c) y') e := by
    cases e <;> rfl
  have e3 : zl1 (fun a' => zM4 a' b c e) a + zl1 (fun b' => zM4 a b' c e) b + zl1 (fun c' => zM4 a b c' e) c = zTT a b * zTT (a + b) c * zl1 (fun x' => zTT x' e) (a + b + c) := by
    by_cases h2 : 0 < a + b + c
    · obtain ⟨n, hn⟩ : ∃ n, a + b + c = n + 1 := ⟨a + b + c - 1, by omega⟩
      have p2 : zTT (a + b) c = zl1 (fun x' => zTT x' c) (a + b) + zl1 (fun y' => zTT (a + b) y') c := zl1_pas _ _ h2
      have ec : zl1 (fun c' => zM4 a b c' e) c = zTT a b * zl1 (fun y' => zTT (a + b) y') c * zTT n e := by
        cases c with
        | zero => simp [zl1]
        | succ c =>
          show zTT a b * zTT (a + b) c * zTT (a + b + c) e = _
          rw [show a + b + c = n by omega]
          rfl
      have eab : zl1 (fun a' => zM4 a' b c e) a + zl1 (fun b' => zM4 a b' c e) b = zTT a b * zl1 (fun x' => zTT x' c) (a + b) * zTT n e := by
        by_cases h1 : 0 < a + b
        · obtain ⟨k, hk⟩ : ∃ k, a + b = k + 1 := ⟨a + b - 1, by omega⟩
          have p1 : zTT a b = zl1 (fun x' => zTT x' b) a + zl1 (fun y' => zTT a y') b := zl1_pas _ _ h1
          have ea : zl1 (fun a' => zM4 a' b c e) a = zl1 (fun x' => zTT x' b) a * zTT k c * zTT n e := by
            cases a with
            | zero => simp [zl1]
            | succ a =>
              show zTT a b * zTT (a + b) c * zTT (a + b + c) e = _
              rw [show a + b = k by omega, show k + c = n by omega]
              rfl
          have eb : zl1 (fun b' => zM4 a b' c e) b = zl1 (fun y' => zTT a y') b * zTT k c * zTT n e := by
            cases b with
            | zero => simp [zl1]
            | succ b =>
              show zTT a b * zTT (a + b) c * zTT (a + b + c) e = _
              rw [show a + b = k by omega, show k + c = n by omega]
              rfl
          rw [ea, eb, p1, hk]
          show _ = _ * zTT k c * zTT n e
          rw [Nat.add_mul, Nat.add_mul]
        · have ha : a = 0 := by omega
          have hb : b = 0 := by omega
          subst ha hb
          simp [zl1]
      rw [eab, ec, hn]
      show _ = _ * zTT n e
      rw [p2, Nat.mul_add, Nat.add_mul]
    · have ha : a = 0 := by omega
      have hb : b = 0 := by omega
      have hc : c = 0 := by omega
      subst ha hb hc
      simp [zl1]
  rw [e3, e4]
  unfold zM4
  rw [h3, Nat.mul_add]
/-- the order with a number, of four rows -/
def zpk : Nat → List Nat → List Nat → List Nat → List Nat → Nat → List Nat
  | 0, _, _, _, _, _ => []
  | n + 1, A, B, C, D, i =>
    if i < zl1 (fun k => zM4 k B.length C.length D.length) A.length then A.headD 0 :: zpk n A.tail B C D i
    else if i < zl1 (fun k => zM4 k B.length C.length D.length) A.length + zl1 (fun k => zM4 A.length k C.length D.length) B.length then B.headD 0 :: zpk n A B.tail C D (i - zl1 (fun k => zM4 k B.length C.length D.length) A.length)
    else if i < zl1 (fun k => zM4 k B.length C.length D.length) A.length + zl1 (fun k => zM4 A.length k C.length D.length) B.length + zl1 (fun k => zM4 A.length B.length k D.length) C.length then C.headD 0 :: zpk n A B C.tail D (i - (zl1 (fun k => zM4 k B.length C.length D.length) A.length + zl1 (fun k => zM4 A.length k C.length D.length) B.length))
    else D.headD 0 :: zpk n A B C D.tail (i - (zl1 (fun k => zM4 k B.length C.length D.length) A.length + zl1 (fun k => zM4 A.length k C.length D.length) B.length + zl1 (fun k => zM4 A.length B.length k D.length) C.length))
theorem zpk_s (n : Nat) (A B C D : List Nat) (i : Nat) : zpk (n + 1) A B C D i = if i < zl1 (fun k => zM4 k B.length C.length D.length) A.length then A.headD 0 :: zpk n A.tail B C D i
    else if i < zl1 (fun k => zM4 k B.length C.length D.length) A.length + zl1 (fun k => zM4 A.length k C.length D.length) B.length then B.headD 0 :: zpk n A B.tail C D (i - zl1 (fun k => zM4 k B.length C.length D.length) A.length)
    else if i < zl1 (fun k => zM4 k B.length C.length D.length) A.length + zl1 (fun k => zM4 A.length k C.length D.length) B.length + zl1 (fun k => zM4 A.length B.length k D.length) C.length then C.headD 0 :: zpk n A B C.tail D (i - (zl1 (fun k => zM4 k B.length C.length D.length) A.length + zl1 (fun k => zM4 A.length k C.length D.length) B.length))
    else D.headD 0 :: zpk n A B C D.tail (i - (zl1 (fun k => zM4 k B.length C.length D.length) A.length + zl1 (fun k => zM4 A.length k C.length D.length) B.length + zl1 (fun k => zM4 A.length B.length k D.length) C.length)) := rfl
theorem zpk_len : ∀ (n : Nat) (A B C D : List Nat) (i : Nat), (zpk n A B C D i).length = n
  | 0, A, B, C, D, i => rfl
  | n + 1, A, B, C, D, i => by
    unfold zpk
    split
    · rw [List.length_cons, zpk_len]
    · split
      · rw [List.length_cons, zpk_len]
      · split
        · rw [List.length_cons, zpk_len]
        · rw [List.length_cons, zpk_len]
/-- a stretch of a row -/
def zsg (lg : List Nat) (p c : Nat) : List Nat := (lg.drop p).take c
theorem zsg_s {lg : List Nat} {p : Nat} (h : p < lg.length) (c : Nat) : zsg lg p (c + 1) = zr lg p :: zsg lg (p + 1) c := by
  unfold zsg zr
  rw [List.drop_eq_getElem_cons h, List.take_succ_cons, List.getD_eq_getElem?_getD, List.getElem?_eq_getElem h]
  rfl
theorem zsg_len {lg : List Nat} {p c : Nat} (h : p + c ≤ lg.length) : (zsg lg p c).length = c := by
  unfold zsg
  rw [List.length_take, List.length_drop]
  omega
theorem zsg_t {lg : List Nat} {p : Nat} (h : p < lg.length) {c : Nat} (hc : 0 < c) : (zsg lg p c).tail = zsg lg (p + 1) (c - 1) ∧ (zsg lg p c).headD 0 = zr lg p := by
  obtain ⟨c', rfl⟩ : ∃ c', c = c' + 1 := ⟨c - 1, by omega⟩
  rw [zsg_s h]
  exact ⟨rfl, rfl⟩
/-- the four rows of the nodes of a block -/
def zbA (fa : Nat → Nat → Int32) (lg : List Nat) (p : Nat) (q : Nat) : Nat := zon fa lg q p (zeN fa lg p - p)
def zbP (fa : Nat → Nat → Int32) (lg : List Nat) (p : Nat) : Nat → Nat
  | 0 => p
  | q + 1 => zbP fa lg p q + zbA fa lg p q
def zbL (fa : Nat → Nat → Int32) (lg : List Nat) (p q : Nat) : List Nat := zsg lg (zbP fa lg p q) (zbA fa lg p q)
def zbM (fa : Nat → Nat → Int32) (lg : List Nat) (p : Nat) : Nat := zM4 (zbA fa lg p 0) (zbA fa lg p 1) (zbA fa lg p 2) (zbA fa lg p 3)
/-- the order with a number, from place p on -/
def zlR (fa : Nat → Nat → Int32) (lg : List Nat) : Nat → Nat → Nat → List Nat
  | 0, _, _ => []
  | f + 1, p, i => if lg.length ≤ p then [] else zpk (zeN fa lg p - p) (zbL fa lg p 0) (zbL fa lg p 1) (zbL fa lg p 2) (zbL fa lg p 3) (i % zbM fa lg p) ++ zlR fa lg f (zeN fa lg p) (i / zbM fa lg p)
theorem zlR_len (fa : Nat → Nat → Int32) (lg : List Nat) : ∀ (f p i : Nat), lg.length ≤ p + f → p ≤ lg.length → (zlR fa lg f p i).length = lg.length - p
  | 0, p, i, hf, hp => by
    show 0 = _
    omega
  | f + 1, p, i, hf, hp => by
    unfold zlR
    by_cases h : lg.length ≤ p
    · rw [if_pos h, List.length_nil]
      omega
    · rw [if_neg h, List.length_append, zpk_len]
      obtain ⟨e1, e2⟩ := zeN_le (fa := fa) (lg := lg) (p := p) (by omega)
      rw [zlR_len fa lg f _ _ (by omega) e2]
      omega
/-- each block has few orders -/
def zfw (fa : Nat → Nat → Int32) (lg : List Nat) : Nat → Nat → Prop
  | 0, _ => True
  | f + 1, p => lg.length ≤ p ∨ (zbM fa lg p ≤ 1000000 ∧ zfw fa lg f (zeN fa lg p))
theorem zl1_le (f : Nat → Nat) (a x : Nat) (h : ∀ k, a = k + 1 → f k ≤ x) : zl1 f a ≤ x := by
  cases a with
  | zero => exact Nat.zero_le _
  | succ a => exact h a rfl
section LYS
variable {X : zX} {d : Nat} {g : zG} {K : Option Value → zG → Prop} {KX : String → zG → Prop} {m : Nat} {fi : Nat → Int32} {ad : Nat → Nat} {fa : Nat → Nat → Int32} {lg : List Nat}
theorem zmD_un {a b c e : Nat} (h : zM4 a b c e ≤ 1000000) : zmD a b c e = zM4 a b c e := by
  unfold zmD
  rw [if_neg (by omega)]
/-- what a block's orders are laid down, from place k on -/
theorem mp_laysOrder_b (hok : zOk X) (hL : zLg fi fa lg) {r end_ : Nat} (hend : end_ ≤ lg.length) {E : zM} (C : zC X (d + 1) E RX3 cX3_laysOrder 19 none "laysOrder") (hQ : zQ X E K KX) : ∀ (n a b c e A B C' D i k : Nat) (g : zG) (fa' : Nat → Nat → Int32), a + b + c + e = n → k + n = end_ → A + a ≤ lg.length → B + b ≤ lg.length → C' + c ≤ lg.length → D + e ≤ lg.length → zM4 a b c e ≤ 1000000 → i < zM4 a b c e → zMd g m fi ad fa' → (∀ j, j ≠ 30 → fa' j = fa j) →
    (∀ (g' : zG) (fa'' : Nat → Nat → Int32), zMd g' m fi ad fa'' → zNm g g' → (∀ j, j ≠ 30 → fa'' j = fa j) → (∀ j, j < k → fa'' 30 j = fa' 30 j) → (∀ j, j < n → fa'' 30 (k + j) = nI (zr (zpk n (zsg lg A a) (zsg lg B b) (zsg lg C' c) (zsg lg D e) i) j)) → GW X E 19 g' 12 [(0, .ref m), (2, .int (nI r)), (3, .int (nI end_))] []) →
    GW X E 19 g 118 [(0, .ref m), (2, .int (nI r)), (4, .int (nI end_)), (5, .int (nI a)), (6, .int (nI b)), (7, .int (nI c)), (8, .int (nI e)), (10, .int (nI i)), (11, .int (nI A)), (12, .int (nI B)), (13, .int (nI C')), (14, .int (nI D)), (15, .int (nI k))] []
  | 0, a, b, c, e, A, B, C', D, i, k, g, fa', hn, hk, hA, hB, hC, hD, hm, hi, hM, hf, hK => by
    have h80 := hL.2.1
    refine bX3_laysOrder_118 (d := d) C hQ g m _ _ _ _ _ _ _ _ _ _ _ _ ⟨fun _ => hK g fa' hM (zNm.rf g) hf (fun _ _ => rfl) (fun j hj => absurd hj (Nat.not_lt_zero j)), fun z => absurd (nI_le (by omega) (by omega)) z⟩
  | n + 1, a, b, c, e, A, B, C', D, i, k, g, fa', hn, hk, hA, hB, hC, hD, hm, hi, hM, hf, hK => by
    have h80 := hL.2.1
    have hp := zM4_p a b c e (by omega)
    have lA := zsg_len (lg := lg) (p := A) (c := a) hA
    have lB := zsg_len (lg := lg) (p := B) (c := b) hB
    have lC := zsg_len (lg := lg) (p := C') (c := c) hC
    have lD := zsg_len (lg := lg) (p := D) (c := e) hD
    -- a place is written, and what comes behind
    have step : ∀ (a2 b2 c2 e2 A2 B2 C2 D2 i2 x : Nat), a2 + b2 + c2 + e2 = n → A2 + a2 ≤ lg.length → B2 + b2 ≤ lg.length → C2 + c2 ≤ lg.length → D2 + e2 ≤ lg.length → zM4 a2 b2 c2 e2 ≤ 1000000 → i2 < zM4 a2 b2 c2 e2 → zpk (n + 1) (zsg lg A a) (zsg lg B b) (zsg lg C' c) (zsg lg D e) i = x :: zpk n (zsg lg A2 a2) (zsg lg B2 b2) (zsg lg C2 c2) (zsg lg D2 e2) i2 → ∀ g2, g2 = zSi g 30 (ad 30) 80 (upd (fa' 30) k (nI x)) → GW X E 19 g2 118 [(0, .ref m), (2, .int (nI r)), (4, .int (nI end_)), (5, .int (nI a2)), (6, .int (nI b2)), (7, .int (nI c2)), (8, .int (nI e2)), (10, .int (nI i2)), (11, .int (nI A2)), (12, .int (nI B2)), (13, .int (nI C2)), (14, .int (nI D2)), (15, .int (nI (k + 1)))] [] := by
      intro a2 b2 c2 e2 A2 B2 C2 D2 i2 x q1 q2 q3 q4 q5 q6 q7 q8 g2 eg
      have M2 := hM.sa (j := 30) (by decide) eg
      refine mp_laysOrder_b hok hL hend C hQ n a2 b2 c2 e2 A2 B2 C2 D2 i2 (k + 1) g2 _ q1 (by omega) q2 q3 q4 q5 q6 q7 M2 (fun j hj => (va_up_ne _ _ hj).trans (hf j hj)) (fun g' fa'' w1 w2 w3 w4 w5 => hK g' fa'' w1 ((zNm.sa (j := 30) (by decide) eg).trans w2) w3 (fun j hj => ?_) (fun j hj => ?_))
      · rw [w4 j (by omega), va_up_self, pk_un (by omega)]
      · rw [q8]
        cases j with
        | zero =>
          rw [w4 (k + 0) (by omega), va_up_self]
          show upd _ k _ k = _
          rw [pk_us]
          rfl
        | succ j =>
          have := w5 j (by omega)
          rw [show k + (j + 1) = k + 1 + j by omega, this]
          rfl
    have hwa : zl1 (fun k => zM4 k b c e) a ≤ 1000000 := by omega
    have hwb : zl1 (fun k => zM4 a k c e) b ≤ 1000000 := by omega
    have hwc : zl1 (fun k => zM4 a b k e) c ≤ 1000000 := by omega
    have r198 : GW X E 19 g 198 [(0, .ref m), (2, .int (nI r)), (4, .int (nI end_)), (5, .int (nI a)), (6, .int (nI b)), (7, .int (nI c)), (8, .int (nI e)), (10, .int (nI i)), (11, .int (nI A)), (12, .int (nI B)), (13, .int (nI C')), (14, .int (nI D)), (15, .int (nI k)), (16, .int (nI (zl1 (fun k => zM4 k b c e) a))), (17, .int (nI (zl1 (fun k => zM4 a k c e) b)))] [.int (nI (zl1 (fun k => zM4 a b k e) c))] := by
      refine bX3_laysOrder_198 (d := d) C hQ g m _ _ _ _ _ _ _ _ _ _ _ _ _ _ _ ?_
      rw [nI_add, nI_add, ← nI_succ, ← nI_succ, ← nI_succ, ← nI_succ, ← nI_succ]
      have hu := zpk_s n (zsg lg A a) (zsg lg B b) (zsg lg C' c) (zsg lg D e) i
      rw [lA, lB, lC, lD] at hu
      have wr : ∀ (P' : Nat) (G : zG → Prop), P' < lg.length → (∀ g2, g2 = zSi g 30 (ad 30) 80 (upd (fa' 30) k (nI (zr lg P'))) → G g2) → ∃ (fs_1 : List Value) (a_2 : Nat), zGo g 3 m = some fs_1 ∧ fs_1[30]? = some (.ref a_2) ∧ ∃ (fs_3 : List Value) (a_4 : Nat), zGo g 3 m = some fs_3 ∧ fs_3[12]? = some (.ref a_4) ∧ ∃ (n_5 : Nat) (f_6 : Nat → Int32), zGi g 12 a_4 = some (n_5, f_6) ∧ vp_in (nI P') n_5 ∧ ∀ v_7 : Int32, v_7 = f_6 (nI P').toNatClampNeg → ∃ (n_8 : Nat) (f_9 : Nat → Int32), zGi g 30 a_2 = some (n_8, f_9) ∧ vp_in (nI k) n_8 ∧ ∀ g_10 : zG, g_10 = zSi g 30 a_2 n_8 (upd f_9 (nI k).toNatClampNeg v_7) → G g_10 := by
        intro P' G hP hG
        refine ⟨_, _, hM.1, rfl, _, _, hM.1, rfl, _, _, hM.2 12 (by decide), (zin 80 rfl (by omega) (by omega)), fun v hv => ⟨_, _, hM.2 30 (by decide), (zin 80 rfl (by omega) (by omega)), fun g2 e2 => ?_⟩⟩
        rw [nI_clamp (by omega), hf 12 (by decide), hL.2.2.2.2 _ hP] at hv
        subst hv
        rw [nI_clamp (by omega)] at e2
        exact hG g2 e2
      refine ⟨fun z => ⟨fun z2 => ⟨fun z3 => ?_, fun z3 => ?_⟩, fun z2 => ?_⟩, fun z => ?_⟩
      · have y1 := (nI_leI (by omega) (by omega)).mp z
        have y2 := (nI_leI (by omega) (by omega)).mp z2
        have y3 := (nI_leI (by omega) (by omega)).mp z3
        rw [if_neg (by omega), if_neg (by omega), if_neg (by omega)] at hu
        have he : 0 < e := by
          cases e with
          | zero =>
            have hz : zl1 (fun e' => zM4 a b c e') 0 = 0 := rfl
            rw [hz] at hp
            omega
          | succ e => omega
        obtain ⟨t1, t2⟩ := zsg_t (lg := lg) (p := D) (by omega) he
        rw [t1, t2] at hu
        obtain ⟨e', rfl⟩ : ∃ e', e = e' + 1 := ⟨e - 1, by omega⟩
        have hw : zl1 (fun k => zM4 a b c k) (e' + 1) = zM4 a b c e' := rfl
        rw [hw] at hp
        rw [pk_m1, pk_sub y3]
        exact wr D _ (by omega) (step a b c e' A B C' (D + 1) _ _ (by omega) hA hB hC (by omega) (by omega) (by omega) hu)
      · have y1 := (nI_leI (by omega) (by omega)).mp z
        have y2 := (nI_leI (by omega) (by omega)).mp z2
        have y3 := mt (nI_leI (by omega) (by omega)).mpr z3
        rw [if_neg (by omega), if_neg (by omega), if_pos (by omega)] at hu
        have he : 0 < c := by
          cases c with
          | zero =>
            have hz : zl1 (fun k => zM4 a b k e) 0 = 0 := rfl
            rw [hz] at y3
            omega
          | succ e => omega
        obtain ⟨t1, t2⟩ := zsg_t (lg := lg) (p := C') (by omega) he
        rw [t1, t2] at hu
        obtain ⟨c', rfl⟩ : ∃ c', c = c' + 1 := ⟨c - 1, by omega⟩
        have hw : zl1 (fun k => zM4 a b k e) (c' + 1) = zM4 a b c' e := rfl
        rw [hw] at hp y3
        rw [pk_m1, pk_sub y2]
        exact wr C' _ (by omega) (step a b c' e A B (C' + 1) D _ _ (by omega) hA hB (by omega) hD (by omega) (by omega) hu)
      · have y1 := (nI_leI (by omega) (by omega)).mp z
        have y2 := mt (nI_leI (by omega) (by omega)).mpr z2
        rw [if_neg (by omega), if_pos (by omega)] at hu
        have he : 0 < b := by
          cases b with
          | zero =>
            have hz : zl1 (fun k => zM4 a k c e) 0 = 0 := rfl
            rw [hz] at y2
            omega
          | succ e => omega
        obtain ⟨t1, t2⟩ := zsg_t (lg := lg) (p := B) (by omega) he
        rw [t1, t2] at hu
        obtain ⟨b', rfl⟩ : ∃ b', b = b' + 1 := ⟨b - 1, by omega⟩
        have hw : zl1 (fun k => zM4 a k c e) (b' + 1) = zM4 a b' c e := rfl
        rw [hw] at hp y2
        rw [pk_m1, pk_sub y1]
        exact wr B _ (by omega) (step a b' c e A (B + 1) C' D _ _ (by omega) hA (by omega) hC hD (by omega) (by omega) hu)
      · have y1 := mt (nI_leI (by omega) (by omega)).mpr z
        rw [if_pos (by omega)] at hu
        have he : 0 < a := by
          cases a with
          | zero =>
            have hz : zl1 (fun k => zM4 k b c e) 0 = 0 := rfl
            rw [hz] at y1
            omega
          | succ e => omega
        obtain ⟨t1, t2⟩ := zsg_t (lg := lg) (p := A) (by omega) he
        rw [t1, t2] at hu
        obtain ⟨a', rfl⟩ : ∃ a', a = a' + 1 := ⟨a - 1, by omega⟩
        have hw : zl1 (fun k => zM4 k b c e) (a' + 1) = zM4 a' b c e := rfl
        rw [hw] at hp y1
        rw [pk_m1]
        exact wr A _ (by omega) (step a' b c e (A + 1) B C' D _ _ (by omega) (by omega) hB hC hD (by omega) (by omega) hu)
    have r173 : GW X E 19 g 173 [(0, .ref m), (2, .int (nI r)), (4, .int (nI end_)), (5, .int (nI a)), (6, .int (nI b)), (7, .int (nI c)), (8, .int (nI e)), (10, .int (nI i)), (11, .int (nI A)), (12, .int (nI B)), (13, .int (nI C')), (14, .int (nI D)), (15, .int (nI k)), (16, .int (nI (zl1 (fun k => zM4 k b c e) a)))] [.int (nI (zl1 (fun k => zM4 a k c e) b))] := by
      refine bX3_laysOrder_173 (d := d) C hQ g m _ _ _ _ _ _ _ _ _ _ _ _ _ _ ⟨fun z => ?_, fun z => ?_⟩
      · obtain ⟨c', rfl⟩ : ∃ c', c = c' + 1 := ⟨c - 1, by
          have : c ≠ 0 := fun w => z (by rw [w]; rfl)
          omega⟩
        rw [nI_pred]
        have hw : zl1 (fun k => zM4 a b k e) (c' + 1) = zM4 a b c' e := rfl
        rw [hw] at r198 hwc
        refine mp_mixed hok (by omega) ⟨_, rfl, ?_⟩
        rw [lN_i, zmD_un hwc]
        exact r198
      · have : c = 0 := (nI_eq (b := 0) (by omega) (by omega)).mp z
        subst this
        exact r198
    have r148 : GW X E 19 g 148 [(0, .ref m), (2, .int (nI r)), (4, .int (nI end_)), (5, .int (nI a)), (6, .int (nI b)), (7, .int (nI c)), (8, .int (nI e)), (10, .int (nI i)), (11, .int (nI A)), (12, .int (nI B)), (13, .int (nI C')), (14, .int (nI D)), (15, .int (nI k))] [.int (nI (zl1 (fun k => zM4 k b c e) a))] := by
      refine bX3_laysOrder_148 (d := d) C hQ g m _ _ _ _ _ _ _ _ _ _ _ _ _ ⟨fun z => ?_, fun z => ?_⟩
      · obtain ⟨b', rfl⟩ : ∃ b', b = b' + 1 := ⟨b - 1, by
          have : b ≠ 0 := fun w => z (by rw [w]; rfl)
          omega⟩
        rw [nI_pred]
        have hw : zl1 (fun k => zM4 a k c e) (b' + 1) = zM4 a b' c e := rfl
        rw [hw] at r173 hwb
        refine mp_mixed hok (by omega) ⟨_, rfl, ?_⟩
        rw [lN_i, zmD_un hwb]
        exact r173
      · have : b = 0 := (nI_eq (b := 0) (by omega) (by omega)).mp z
        subst this
        exact r173
    refine bX3_laysOrder_118 (d := d) C hQ g m _ _ _ _ _ _ _ _ _ _ _ _ ⟨fun z => absurd z (nI_ge (by omega) (by omega)), fun _ => ⟨fun z => ?_, fun z => ?_⟩⟩
    · obtain ⟨a', rfl⟩ : ∃ a', a = a' + 1 := ⟨a - 1, by
        have : a ≠ 0 := fun w => z (by rw [w]; rfl)
        omega⟩
      rw [nI_pred]
      have hw : zl1 (fun k => zM4 k b c e) (a' + 1) = zM4 a' b c e := rfl
      rw [hw] at r148 hwa
      refine mp_mixed hok (by omega) ⟨_, rfl, ?_⟩
      rw [lN_i, zmD_un hwa]
      exact r148
    · have : a = 0 := (nI_eq (b := 0) (by omega) (by omega)).mp z
      subst this
      exact r148
end LYS
