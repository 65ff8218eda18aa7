set_option maxRecDepth 100000
/-- an answer that is not open -/
def z2 (a : Int32) : Prop := a = 0 ∨ a = 1
theorem z2_n {a : Int32} (h : z2 a) : ¬ a = 2 := by
  rcases h with rfl | rfl <;> decide
theorem zAnd_2 {a b : Int32} (ha : z2 a) (hb : z2 b) : z2 (zAnd a b) := by
  rcases ha with rfl | rfl <;> rcases hb with rfl | rfl <;> unfold z2 <;> decide
theorem zOr_2 {a b : Int32} (ha : z2 a) (hb : z2 b) : z2 (zOr a b) := by
  rcases ha with rfl | rfl <;> rcases hb with rfl | rfl <;> unfold z2 <;> decide
theorem zNt_2 {a : Int32} (ha : z2 a) : z2 (zNt a) := by
  rcases ha with rfl | rfl <;> unfold z2 <;> decide
theorem zsin_2 {nr : Nat → Bool} {F L : Nat → Int32} (hF : ∀ k, z2 (F k)) (hL : ∀ k, z2 (L k)) : ∀ (c : Nat) (s a : Int32), z2 s → z2 a → z2 (zsin nr F L c s a)
  | 0, s, a, h, _ => h
  | c + 1, s, a, h, ha => by
    unfold zsin
    split
    · exact zsin_2 hF hL c _ _ (zOr_2 h (zAnd_2 (hL _) ha)) (zAnd_2 ha (hF _))
    · exact h
theorem zonc_2 {nr : Nat → Bool} {L : Nat → Int32} (hL : ∀ k, z2 (L k)) : ∀ (c : Nat) (s : Int32), z2 s → z2 (zonc nr L c s)
  | 0, s, h => h
  | c + 1, s, h => by
    unfold zonc
    split
    · exact zonc_2 hL c _ (zOr_2 h (hL _))
    · exact h
theorem zsoo_2 {nr : Nat → Bool} {L : Nat → Int32} (hL : ∀ k, z2 (L k)) : ∀ (c k : Nat) (s : Int32), z2 s → z2 (zsoo nr L c k s)
  | 0, k, s, h => h
  | c + 1, k, s, h => by
    unfold zsoo
    split
    · exact zsoo_2 hL c _ _ (zOr_2 h (hL _))
    · exact h
theorem zunt_2 {nr : Nat → Bool} {F L : Nat → Int32} (hF : ∀ k, z2 (F k)) (hL : ∀ k, z2 (L k)) : ∀ (c k : Nat) (s a : Int32), z2 s → z2 a → z2 (zunt nr F L c k s a).1
  | 0, k, s, a, h, _ => h
  | c + 1, k, s, a, h, ha => by
    unfold zunt
    refine zunt_2 hF hL c _ _ _ ?_ (zAnd_2 ha (hF _))
    split
    · exact zOr_2 h (zAnd_2 (hL _) ha)
    · exact h
theorem zif2 {c : Prop} [Decidable c] {a b : Int32} (ha : z2 a) (hb : z2 b) : z2 (if c then a else b) := by
  split
  · exact ha
  · exact hb
theorem zmny_2 {nr : Nat → Bool} {L : Nat → Int32} (hL : ∀ k, z2 (L k)) : ∀ (c : Nat) (a : Int32), (zmny nr L c a a).1 = (zmny nr L c a a).2
  | 0, a => rfl
  | c + 1, a => by
    unfold zmny
    split
    · have e : (if L c = 1 then (1 : Int32) else 0) = if L c = 0 then 0 else 1 := by
        rcases hL c with h | h <;> rw [h] <;> decide
      rw [e]
      exact zmny_2 hL c _
    · rfl
theorem zst_2' {fi : Nat → Int32} {fa : Nat → Nat → Int32} {base : Nat} {R : List Nat} {tab : Nat → Nat → Int32} (hcl : ¬ fi 2 = 0) (h : ∀ q k, z2 (tab q k)) (p e : Nat) : z2 (zst fi fa base R tab p e) := by
  have o0 : z2 0 := Or.inl rfl
  have o1 : z2 1 := Or.inr rfl
  have hop : ∀ b e, zop (fi 2) (fi 5) (fa 7) R b e = false := fun b e => by
    unfold zop
    rw [beq_eq_false_iff_ne.mpr hcl]
    rfl
  unfold zst
  simp only [hop, if_neg hcl]
  refine zif2 (zif2 o1 o0) (zif2 (zif2 o1 o0) (zif2 (zNt_2 (h _ _)) (zif2 (zAnd_2 (h _ _) (h _ _)) (zif2 (zOr_2 (h _ _) (h _ _)) (zif2 (zif2 o0 (h _ _)) (zif2 (zsin_2 (h _) (h _) _ _ _ o0 o1) (zif2 (zonc_2 (h _) _ _ o0) (zif2 (zif2 (h _ _) o0) (zif2 ?_ (zif2 ?_ ?_))))))))))
  · rw [if_neg (by decide)]
    exact zunt_2 (h _) (h _) _ _ _ _ o0 o1
  · rw [if_neg (by decide)]
    exact zsoo_2 (h _) _ _ _ o0
  · rw [← zmny_2 (h _)]
    split
    · exact o0
    · exact o1
theorem zT_2 {fi : Nat → Int32} {fa : Nat → Nat → Int32} {base : Nat} {R : List Nat} (hcl : ¬ fi 2 = 0) : ∀ (n p e : Nat), z2 (zT fi fa base R n p e)
  | 0, p, e => Or.inl rfl
  | n + 1, p, e => by
    show z2 (if p = n then zst fi fa base R (zT fi fa base R n) p e else zT fi fa base R n p e)
    split
    · exact zst_2' hcl (fun q k => zT_2 hcl n q k) _ _
    · exact zT_2 hcl n p e
theorem zFd_2 {fi : Nat → Int32} {fa : Nat → Nat → Int32} (hcl : ¬ fi 2 = 0) (ids : Int32) (i n : Nat) (Ls : List Nat) (v : Nat) : ∀ s : Nat, z2 (zFd fi fa ids i n Ls s v)
  | 0 => Or.inr rfl
  | s + 1 => by
    show z2 (if v ∈ zRn fa ids i Ls s then _ else zFd fi fa ids i n Ls s v)
    split
    · exact zAnd_2 (zFd_2 hcl ids i n Ls v s) (zT_2 hcl _ _ _)
    · exact zFd_2 hcl ids i n Ls v s
theorem zAn_2 {fi : Nat → Int32} {fa : Nat → Nat → Int32} (hcl : ¬ fi 2 = 0) (i n : Nat) (Ls : List Nat) (nE v : Nat) : z2 (zAn fi fa i n Ls nE v) := zFd_2 hcl _ _ _ _ _ _
/-- behind the close nothing is open, so all that was is counted -/
theorem zks_o {fa : Nat → Nat → Int32} {ans : Nat → Int32} {i n : Nat} (h : ∀ v, z2 (ans v)) : ∀ k : Nat, k ≤ n → zks fa ans i n k = zoM1 fa n i k
  | 0, _ => rfl
  | k + 1, hk => by
    show zks fa ans i n k + _ = zoM1 fa n i k + _
    rw [zks_o h k (by omega)]
    congr 1
    by_cases c : fa 25 (80 * i + k) = 2
    · rw [if_pos ⟨by omega, c, z2_n (h k)⟩, if_pos c]
    · rw [if_neg (fun z => c z.2.1), if_neg c]
theorem zkS_o {fa : Nat → Nat → Int32} {ans : Nat → Nat → Int32} {n : Nat} (h : ∀ i v, z2 (ans i v)) : ∀ k : Nat, zkS fa ans n n k = zoM fa n k
  | 0 => rfl
  | k + 1 => by
    show zkS fa ans n n k + zks fa (ans k) k n n = zoM fa n k + zoM1 fa n k n
    rw [zkS_o h k, zks_o (h k) n (Nat.le_refl n)]
theorem zoM1_0 {fa : Nat → Nat → Int32} {n i : Nat} : ∀ k : Nat, k ≤ n → (∀ v, v < n → ¬ fa 25 (80 * i + v) = 2) → zoM1 fa n i k = 0
  | 0, _, _ => rfl
  | k + 1, hk, h => by
    show zoM1 fa n i k + _ = 0
    rw [zoM1_0 k (by omega) h, if_neg (h k (by omega))]
    rfl
theorem zoM_0 {fa : Nat → Nat → Int32} {n : Nat} : ∀ k : Nat, (∀ i v, i < k → v < n → ¬ fa 25 (80 * i + v) = 2) → zoM fa n k = 0
  | 0, _ => rfl
  | k + 1, h => by
    show zoM fa n k + zoM1 fa n k n = 0
    rw [zoM_0 k (fun i v hi hv => h i v (by omega) hv), zoM1_0 n (Nat.le_refl n) (fun v hv => h k v (by omega) hv)]
    rfl
