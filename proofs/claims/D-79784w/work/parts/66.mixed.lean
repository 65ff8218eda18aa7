set_option maxRecDepth 100000
/-- how many ways there are to mix a row of x with one of y -/
def zTTr (f : Nat → Nat) : Nat → Nat
  | 0 => 1
  | y + 1 => f (y + 1) + zTTr f y
def zTT : Nat → Nat → Nat
  | 0 => fun _ => 1
  | x + 1 => zTTr (zTT x)
theorem zTT_r (x : Nat) : zTT x 0 = 1 := by
  cases x <;> rfl
theorem zTT_l (y : Nat) : zTT 0 y = 1 := by
  cases y <;> rfl
theorem zTT_ss (x y : Nat) : zTT (x + 1) (y + 1) = zTT x (y + 1) + zTT (x + 1) y := rfl
theorem zTT_pos : ∀ x y : Nat, 1 ≤ zTT x y
  | 0, y => by rw [zTT_l]; exact Nat.le_refl _
  | x + 1, 0 => by rw [zTT_r]; exact Nat.le_refl _
  | x + 1, y + 1 => by
    have := zTT_pos x (y + 1)
    rw [zTT_ss]
    omega
/-- the next one by a product -/
theorem zTT_x : ∀ s x y : Nat, x + y = s → zTT x (y + 1) * (y + 1) = zTT x y * (x + y + 1) ∧ zTT (x + 1) y * (x + 1) = zTT x y * (x + y + 1)
  | 0, x, y, h => by
    have h1 : x = 0 := by omega
    have h2 : y = 0 := by omega
    subst h1 h2
    exact ⟨rfl, rfl⟩
  | s + 1, x, y, h => by
    constructor
    · cases x with
      | zero =>
        rw [zTT_l, zTT_l]
        omega
      | succ x =>
        cases y with
        | zero =>
          rw [zTT_ss, zTT_r]
          have := (zTT_x s x 0 (by omega)).1
          rw [zTT_r] at this
          omega
        | succ y =>
          have a1 := (zTT_x s x (y + 1) (by omega)).1
          have a2 := (zTT_x s (x + 1) y (by omega)).1
          have a3 := (zTT_x s x (y + 1) (by omega)).2
          rw [zTT_ss x (y + 1), Nat.add_mul, a1]
          have e : zTT (x + 1) (y + 1) * (y + 1 + 1) = zTT (x + 1) (y + 1) * (y + 1) + zTT (x + 1) (y + 1) := Nat.mul_succ _ _
          have e3 : zTT (x + 1) (y + 1) * (x + 1 + (y + 1) + 1) = zTT (x + 1) (y + 1) * (x + 1) + zTT (x + 1) (y + 1) * (y + 1) + zTT (x + 1) (y + 1) := by
            rw [Nat.mul_succ, Nat.mul_add]
          rw [e, e3, a3]
          omega
    · cases y with
      | zero =>
        rw [zTT_r, zTT_r]
      | succ y =>
        cases x with
        | zero =>
          rw [zTT_ss, zTT_l]
          have := (zTT_x s 0 y (by omega)).2
          rw [zTT_l] at this
          omega
        | succ x =>
          have a1 := (zTT_x s x (y + 1) (by omega)).2
          have a2 := (zTT_x s (x + 1) y (by omega)).2
          have a3 := (zTT_x s (x + 1) y (by omega)).1
          rw [zTT_ss (x + 1) y, Nat.add_mul, a2]
          have e : zTT (x + 1) (y + 1) * (x + 1 + 1) = zTT (x + 1) (y + 1) * (x + 1) + zTT (x + 1) (y + 1) := Nat.mul_succ _ _
          have e3 : zTT (x + 1) (y + 1) * (x + 1 + (y + 1) + 1) = zTT (x + 1) (y + 1) * (x + 1) + zTT (x + 1) (y + 1) * (y + 1) + zTT (x + 1) (y + 1) := by
            rw [Nat.mul_succ, Nat.mul_add]
          rw [e, e3, a3]
          omega
theorem zTT_n (x y : Nat) : zTT x (y + 1) * (y + 1) = zTT x y * (x + y + 1) := (zTT_x _ x y rfl).1
theorem zTT_mono (x y : Nat) : zTT x y ≤ zTT x (y + 1) := by
  cases x with
  | zero =>
    rw [zTT_l, zTT_l]
    exact Nat.le_refl _
  | succ x =>
    rw [zTT_ss]
    omega
/-- of four rows -/
def zM4 (a b c d : Nat) : Nat := zTT a b * zTT (a + b) c * zTT (a + b + c) d
/-- what mixed has behind k steps -/
def zmx (a b c d k : Nat) : Nat := if k ≤ b then zTT a k else if k ≤ b + c then zTT a b * zTT (a + b) (k - b) else zTT a b * zTT (a + b) c * zTT (a + b + c) (k - b - c)
/-- by what the next step is divided -/
def zby (b c k : Nat) : Nat := if k ≤ b then k else if k ≤ b + c then k - b else k - b - c
theorem zmx_0 (a b c d : Nat) : zmx a b c d 0 = 1 := by
  unfold zmx
  rw [if_pos (Nat.zero_le _), zTT_r]
theorem zmx_e (a b c d : Nat) : zmx a b c d (b + c + d) = zM4 a b c d := by
  unfold zmx zM4
  by_cases h : b + c + d ≤ b
  · have h1 : c = 0 := by omega
    have h2 : d = 0 := by omega
    subst h1 h2
    rw [if_pos h, zTT_r, zTT_r]
    simp
  · rw [if_neg h]
    by_cases h2 : b + c + d ≤ b + c
    · have h3 : d = 0 := by omega
      subst h3
      rw [if_pos h2, zTT_r, Nat.mul_one]
      congr 2
      omega
    · rw [if_neg h2]
      congr 2
      omega
theorem zmx_s (a b c d k : Nat) : zmx a b c d (k + 1) * zby b c (k + 1) = zmx a b c d k * (a + (k + 1)) ∧ zmx a b c d k ≤ zmx a b c d (k + 1) ∧ 1 ≤ zby b c (k + 1) ∧ zby b c (k + 1) ≤ k + 1 := by
  unfold zmx zby
  by_cases h : k + 1 ≤ b
  · rw [if_pos h, if_pos h, if_pos (by omega)]
    exact ⟨zTT_n a k, zTT_mono a k, by omega, by omega⟩
  · rw [if_neg h, if_neg h]
    by_cases h2 : k + 1 ≤ b + c
    · rw [if_pos h2, if_pos h2]
      by_cases h3 : k ≤ b
      · have hk : k = b := by omega
        subst hk
        rw [if_pos (Nat.le_refl _), show k + 1 - k = 0 + 1 by omega, Nat.mul_assoc, zTT_n, zTT_r]
        refine ⟨by congr 1; omega, ?_, by omega, by omega⟩
        exact Nat.le_mul_of_pos_right _ (zTT_pos _ _)
      · rw [if_neg h3, if_pos (by omega)]
        obtain ⟨j, hj⟩ : ∃ j, k = b + j := ⟨k - b, by omega⟩
        subst hj
        rw [show b + j + 1 - b = j + 1 by omega, show b + j - b = j by omega, Nat.mul_assoc, zTT_n, Nat.mul_assoc]
        refine ⟨by congr 2; omega, ?_, by omega, by omega⟩
        exact Nat.mul_le_mul_left _ (zTT_mono _ _)
    · rw [if_neg h2, if_neg h2]
      by_cases h3 : k ≤ b
      · have hk : k = b := by omega
        have hc : c = 0 := by omega
        subst hk hc
        rw [if_pos (Nat.le_refl _), show k + 1 - k - 0 = 0 + 1 by omega, Nat.mul_assoc, zTT_n, zTT_r, zTT_r]
        refine ⟨by rw [Nat.mul_one, Nat.one_mul]; congr 1, ?_, by omega, by omega⟩
        rw [Nat.mul_one]
        exact Nat.le_mul_of_pos_right _ (zTT_pos _ _)
      · rw [if_neg h3]
        by_cases h4 : k ≤ b + c
        · have hk : k = b + c := by omega
          subst hk
          rw [if_pos (Nat.le_refl _), show b + c + 1 - b - c = 0 + 1 by omega, show b + c - b = c by omega, Nat.mul_assoc, zTT_n, zTT_r]
          refine ⟨by rw [Nat.one_mul]; congr 1; omega, ?_, by omega, by omega⟩
          exact Nat.le_mul_of_pos_right _ (zTT_pos _ _)
        · rw [if_neg h4]
          obtain ⟨j, hj⟩ : ∃ j, k = b + c + j := ⟨k - b - c, by omega⟩
          subst hj
          rw [show b + c + j + 1 - b - c = j + 1 by omega, show b + c + j - b - c = j by omega, Nat.mul_assoc, zTT_n, Nat.mul_assoc]
          refine ⟨by rw [show a + b + c + j + 1 = a + (b + c + j + 1) by omega]; simp only [Nat.mul_assoc], ?_, by omega, by omega⟩
          exact Nat.mul_le_mul_left _ (zTT_mono _ _)
theorem zmx_m (a b c d k : Nat) : ∀ j : Nat, zmx a b c d k ≤ zmx a b c d (k + j)
  | 0 => Nat.le_refl _
  | j + 1 => Nat.le_trans (zmx_m a b c d k j) (zmx_s a b c d (k + j)).2.1
theorem zM4_pos (a b c d : Nat) : 1 ≤ zM4 a b c d := Nat.mul_pos (Nat.mul_pos (zTT_pos _ _) (zTT_pos _ _)) (zTT_pos _ _)
/-- what mixed tells -/
def zmD (a b c d : Nat) : Nat := if 1000000 < zM4 a b c d then 1000000 else zM4 a b c d
section MXD
variable {X : zX} {d : Nat} {g : zG} {K : Option Value → zG → Prop} {KX : String → zG → Prop}
theorem mp_mixed_l {a b c e : Nat} (hs : a + b + c + e ≤ 80) {E : zM} (C : zC X d E RX3 cX3_mixed 9 (some .long) "mixed") (hQ : zQ X E K KX) (hK : K (some (.long (lN (zmD a b c e)))) g) : ∀ (n k : Nat), b + c + e = k + n → zmx a b c e k < 1000000 → GW X E 9 g 9 [(1, .int (nI b)), (2, .int (nI c)), (3, .int (nI e)), (4, .long (lN (zmx a b c e k))), (6, .int (nI (a + k))), (7, .int (nI k + 1))] []
  | 0, k, hc, hv => by
    refine bX3_mixed_9 C hQ g _ _ _ _ _ _ ?_
    rw [nI_add, nI_add, ← nI_succ]
    refine ⟨fun _ => ?_, fun z => absurd (nI_lt (by omega) (by omega)) z⟩
    have hk : k = b + c + e := by omega
    rw [hk, zmx_e] at hv ⊢
    unfold zmD at hK
    rw [if_neg (by omega)] at hK
    exact hK
  | n + 1, k, hc, hv => by
    obtain ⟨s1, s2, s3, s4⟩ := zmx_s a b c e k
    have key : ∀ t0 : Int32, t0 = nI (zby b c (k + 1)) → GW X E 9 g 54 [(1, .int (nI b)), (2, .int (nI c)), (3, .int (nI e)), (4, .long (lN (zmx a b c e k))), (6, .int (nI (a + (k + 1)))), (7, .int (nI (k + 1)))] [.int t0] := by
      intro t0 ht
      subst ht
      refine bX3_mixed_54 C hQ g _ _ _ _ _ _ _ ?_
      have hlt : zmx a b c e k * (a + (k + 1)) < 2 ^ 31 := by
        have h1 : a + (k + 1) ≤ 80 := by omega
        have := Nat.mul_le_mul (Nat.le_of_lt hv) h1
        omega
      have hdv : lN (zmx a b c e k) * (nI (a + (k + 1))).toInt64 / (nI (zby b c (k + 1))).toInt64 = lN (zmx a b c e (k + 1)) := by
        rw [nI_l (by omega), nI_l (by omega), lN_mul, pk_lDiv (by omega) (by omega) (by omega), ← s1, Nat.mul_div_cancel _ (by omega)]
      have hle : zmx a b c e (k + 1) < 2 ^ 31 := by
        have := Nat.le_mul_of_pos_right (zmx a b c e (k + 1)) s3
        omega
      refine ⟨?_, ?_⟩
      · rw [nI_l (by omega), show (0 : Int64) = lN 0 from rfl, lN_eq (by omega) (by omega)]
        omega
      rw [hdv, lg_cmp_le, lg_cmp_eq, show (1000000 : Int64) = lN 1000000 from rfl, lN_le hle (by omega), lN_eq hle (by omega)]
      have hmono := zmx_m a b c e (k + 1) n
      rw [show k + 1 + n = b + c + e by omega, zmx_e] at hmono
      refine ⟨fun z => ⟨fun z2 => ?_, fun z2 => ?_⟩, fun z => ⟨fun z2 => ?_, fun z2 => ?_⟩⟩
      · rw [← nI_succ]
        have := mp_mixed_l hs C hQ hK n (k + 1) (by omega) (by omega)
        rw [← nI_succ] at this
        exact this
      · unfold zmD at hK
        rw [z2] at hmono ⊢
        by_cases cc : 1000000 < zM4 a b c e
        · rw [if_pos cc] at hK
          exact hK
        · rw [if_neg cc, show zM4 a b c e = 1000000 by omega] at hK
          exact hK
      · exact absurd ((lg_cmp_eq _ _).mpr rfl) z2
      · unfold zmD at hK
        by_cases cc : 1000000 < zM4 a b c e
        · rw [if_pos cc] at hK
          exact hK
        · omega
    refine bX3_mixed_9 C hQ g _ _ _ _ _ _ ?_
    rw [nI_add, nI_add, ← nI_succ, ← nI_succ, Nat.add_assoc]
    refine ⟨fun z => absurd z (nI_nlt (by omega) (by omega)), fun _ => ⟨fun z => ?_, fun z => ?_⟩⟩
    · have h1 := (nI_ltI (a := b) (b := k + 1) (by omega) (by omega)).mp z
      refine ⟨fun z2 => ?_, fun z2 => ?_⟩
      · have h2 := (nI_ltI (a := b + c) (b := k + 1) (by omega) (by omega)).mp z2
        refine key _ ?_
        rw [pk_sub (by omega), pk_sub (by omega)]
        unfold zby
        rw [if_neg (by omega), if_neg (by omega)]
      · have h2 := mt (nI_ltI (a := b + c) (b := k + 1) (by omega) (by omega)).mpr z2
        refine key _ ?_
        rw [pk_sub (by omega)]
        unfold zby
        rw [if_neg (by omega), if_pos (by omega)]
    · have h1 := mt (nI_ltI (a := b) (b := k + 1) (by omega) (by omega)).mpr z
      refine key _ ?_
      unfold zby
      rw [if_pos (by omega)]
theorem mp_mixed (hok : zOk X) {a b c e : Nat} (hs : a + b + c + e ≤ 80) (hK : K (some (.long (lN (zmD a b c e)))) g) : zCal X d yX3_mixed wX3_mixed [.int (nI a), .int (nI b), .int (nI c), .int (nI e)] g K KX := by
  refine mX3_mixed hok _ _ _ _ (fun E C hQ => ?_)
  have := mp_mixed_l hs C hQ hK (b + c + e) 0 (by omega) (by rw [zmx_0]; omega)
  rw [zmx_0] at this
  exact this
end MXD
