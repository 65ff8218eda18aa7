set_option maxRecDepth 100000
/-! ANSWERS, more of them -/
theorem z3_0 : z3 0 := Or.inl rfl
theorem z3_1 : z3 1 := Or.inr (Or.inl rfl)
theorem z3_2 : z3 2 := Or.inr (Or.inr rfl)
theorem zsin_3 {nr : Nat → Bool} {F L : Nat → Int32} : ∀ (c : Nat) (s a : Int32), z3 s → z3 (zsin nr F L c s a)
  | 0, s, a, h => h
  | c + 1, s, a, h => by
    unfold zsin
    split
    · exact zsin_3 c _ _ (zOr_3 _ _)
    · exact h
theorem zonc_3 {nr : Nat → Bool} {L : Nat → Int32} : ∀ (c : Nat) (s : Int32), z3 s → z3 (zonc nr L c s)
  | 0, s, h => h
  | c + 1, s, h => by
    unfold zonc
    split
    · exact zonc_3 c _ (zOr_3 _ _)
    · exact h
theorem zsoo_3 {nr : Nat → Bool} {L : Nat → Int32} : ∀ (c k : Nat) (s : Int32), z3 s → z3 (zsoo nr L c k s)
  | 0, k, s, h => h
  | c + 1, k, s, h => by
    unfold zsoo
    split
    · exact zsoo_3 c _ _ (zOr_3 _ _)
    · exact h
theorem zunt_3 {nr : Nat → Bool} {F L : Nat → Int32} : ∀ (c k : Nat) (s a : Int32), z3 s → z3 (zunt nr F L c k s a).1
  | 0, k, s, a, h => h
  | c + 1, k, s, a, h => by
    unfold zunt
    refine zunt_3 c _ _ _ ?_
    split
    · exact zOr_3 _ _
    · exact h
theorem zif3 {c : Prop} [Decidable c] {a b : Int32} (ha : z3 a) (hb : z3 b) : z3 (if c then a else b) := by
  split
  · exact ha
  · exact hb
theorem zst_3 {fi : Nat → Int32} {fa : Nat → Nat → Int32} {base : Nat} {R : List Nat} {tab : Nat → Nat → Int32} (h : ∀ q k, z3 (tab q k)) (p e : Nat) : z3 (zst fi fa base R tab p e) := by
  unfold zst
  simp only []
  exact zif3 (zif3 z3_1 z3_0) (zif3 (zif3 z3_1 z3_0) (zif3 (zNt_3 (h _ _)) (zif3 (zAnd_3 _ _) (zif3 (zOr_3 _ _) (zif3 (zif3 z3_0 (h _ _)) (zif3 (zsin_3 _ _ _ z3_0) (zif3 (zonc_3 _ _ z3_0) (zif3 (zif3 (h _ _) (zif3 z3_2 z3_0)) (zif3 (zif3 (zOr_3 _ _) (zunt_3 _ _ _ _ z3_0)) (zif3 (zsoo_3 _ _ _ (zif3 z3_2 z3_0)) (zif3 (zif3 z3_0 z3_2) z3_1)))))))))))
theorem zT_3 {fi : Nat → Int32} {fa : Nat → Nat → Int32} {base : Nat} {R : List Nat} : ∀ (n p e : Nat), z3 (zT fi fa base R n p e)
  | 0, p, e => z3_0
  | n + 1, p, e => by
    show z3 (if p = n then zst fi fa base R (zT fi fa base R n) p e else zT fi fa base R n p e)
    split
    · exact zst_3 (fun q k => zT_3 n q k) _ _
    · exact zT_3 n p e
theorem zVv_3 (fi : Nat → Int32) (fa : Nat → Nat → Int32) (base : Nat) (R : List Nat) (p e : Nat) : z3 (zVv fi fa base R p e) := zT_3 _ _ _
theorem z3_m1 {x : Int32} (h : z3 x) : ¬ x = -1 := by rcases h with rfl | rfl | rfl <;> decide
/-- what is told, by what is told of the parts -/
theorem zVv_fix {fi : Nat → Int32} {fa : Nat → Nat → Int32} {base n : Nat} {R : List Nat} (hw : zwf fa base n) {p e : Nat} (hp : p < n) (he : e < R.length) : zVv fi fa base R p e = zst fi fa base R (zVv fi fa base R) p e := by
  rw [zVv_st]
  refine zst_cg hw hp he (fun q hq k hk => ?_)
  exact zT_V _ _ _ _ _ _ _ hq
theorem zAnd_1 {x : Int32} (h : z3 x) : zAnd 1 x = x := by rcases h with rfl | rfl | rfl <;> decide
theorem zOr_assoc {x y z : Int32} (hx : z3 x) (hy : z3 y) (hz : z3 z) : zOr (zOr x y) z = zOr x (zOr y z) := by
  rcases hx with rfl | rfl | rfl <;> rcases hy with rfl | rfl | rfl <;> rcases hz with rfl | rfl | rfl <;> decide
/-- what is OPEN at first may be joined last -/
theorem zsoo_o {nr : Nat → Bool} {L : Nat → Int32} (hL : ∀ k, z3 (L k)) : ∀ (c k : Nat) (s : Int32), z3 s → zsoo nr L c k (zOr s 2) = zOr (zsoo nr L c k s) 2
  | 0, k, s, h => rfl
  | c + 1, k, s, h => by
    unfold zsoo
    split
    · rw [← zsoo_o hL c (k + 1) (zOr s (L k)) (zOr_3 _ _), zOr_assoc h z3_2 (hL k), zOr_c 2 (L k), ← zOr_assoc h (hL k) z3_2]
    · rfl
/-- the row's times rise -/
def zri (fa : Nat → Nat → Int32) (R : List Nat) : Prop := ∀ j k : Nat, j ≤ k → k < R.length → fa 7 (zr R j) ≤ fa 7 (zr R k)
/-- times are 0 to 11000 -/
def zti (fa : Nat → Nat → Int32) (R : List Nat) : Prop := ∀ v ∈ R, ∃ t : Nat, t ≤ 11000 ∧ fa 7 v = nI t
theorem zti_sub {fa : Nat → Nat → Int32} {R : List Nat} (h : zti fa R) {j k : Nat} (hj : j < R.length) (hk : k < R.length) : (fa 7 (zr R j) - fa 7 (zr R k)).toInt = (fa 7 (zr R j)).toInt - (fa 7 (zr R k)).toInt := by
  obtain ⟨a, ha, e1⟩ := h _ (zr_mem hj)
  obtain ⟨b, hb, e2⟩ := h _ (zr_mem hk)
  rw [e1, e2, pk_sub_toInt (by omega) (by omega), nI_toInt (by omega), nI_toInt (by omega)]
/-- one that's not near has none near behind it -/
theorem znr_m {fa : Nat → Nat → Int32} {R : List Nat} (hr : zri fa R) (ht : zti fa R) {b : Int32} {e k k' : Nat} (he : e < R.length) (h1 : k ≤ k') (h2 : k' < R.length) (h : znr (fa 7) R b e k = false) : znr (fa 7) R b e k' = false := by
  unfold znr at h ⊢
  have hle := hr k k' h1 h2
  have s1 := zti_sub ht (j := k) (k := e) (by omega) he
  have s2 := zti_sub ht (j := k') (k := e) h2 he
  by_cases c : b = -1
  · rw [c] at h
    exact absurd h (by simp)
  · have c' : (b == -1) = false := beq_eq_false_iff_ne.mpr c
    rw [c', Bool.false_or, Bool.not_eq_false', decide_eq_true_iff] at h ⊢
    have h1 := Int32.lt_iff_toInt_lt.mp h
    have h2 := Int32.le_iff_toInt_le.mp hle
    apply Int32.lt_iff_toInt_lt.mpr
    omega
theorem zunt_far {nr : Nat → Bool} {F L : Nat → Int32} : ∀ (c k : Nat) (s a : Int32), (∀ j, k ≤ j → j < k + c → nr j = false) → (zunt nr F L c k s a).1 = s
  | 0, k, s, a, h => rfl
  | c + 1, k, s, a, h => by
    unfold zunt
    rw [if_neg (by rw [h k (Nat.le_refl _) (by omega)]; decide)]
    exact zunt_far c (k + 1) s _ (fun j h1 h2 => h j (by omega) (by omega))
