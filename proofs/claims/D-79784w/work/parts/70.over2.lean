set_option maxRecDepth 100000
theorem zTT_zM4 {a b c e : Nat} (h : zmD a b c e ≤ 999999) : zM4 a b c e = zmD a b c e := by
  unfold zmD at h ⊢
  by_cases c1 : 1000000 < zM4 a b c e
  · rw [if_pos c1] at h
    omega
  · rw [if_neg c1]
/-- the product of the blocks' orders, from p on -/
def zpr (fa : Nat → Nat → Int32) (lg : List Nat) : Nat → Nat → Nat
  | 0, _ => 1
  | f + 1, p => if lg.length ≤ p then 1 else zbM fa lg p * zpr fa lg f (zeN fa lg p)
theorem zpr_pos (fa : Nat → Nat → Int32) (lg : List Nat) : ∀ f p : Nat, 1 ≤ zpr fa lg f p
  | 0, p => Nat.le_refl _
  | f + 1, p => by
    unfold zpr
    split
    · exact Nat.le_refl _
    · exact Nat.mul_pos (zM4_pos _ _ _ _) (zpr_pos fa lg f _)
theorem zoO_121 (fa : Nat → Nat → Int32) (lg : List Nat) : ∀ f p : Nat, zoO fa lg f p 121 = 121
  | 0, p => rfl
  | f + 1, p => by
    unfold zoO
    split
    · rfl
    · have h : 1 ≤ zmD (zon fa lg 0 p (zeN fa lg p - p)) (zon fa lg 1 p (zeN fa lg p - p)) (zon fa lg 2 p (zeN fa lg p - p)) (zon fa lg 3 p (zeN fa lg p - p)) := by
        have := zM4_pos (zon fa lg 0 p (zeN fa lg p - p)) (zon fa lg 1 p (zeN fa lg p - p)) (zon fa lg 2 p (zeN fa lg p - p)) (zon fa lg 3 p (zeN fa lg p - p))
        unfold zmD
        split <;> omega
      rw [if_pos (by omega)]
      exact zoO_121 fa lg f _
/-- the orders, up to 121 -/
theorem zoO_pr (fa : Nat → Nat → Int32) (lg : List Nat) : ∀ f p s : Nat, 1 ≤ s → s ≤ 120 → zoO fa lg f p s = if 120 < s * zpr fa lg f p then 121 else s * zpr fa lg f p
  | 0, p, s, h1, h2 => by
    unfold zoO zpr
    rw [Nat.mul_one, if_neg (by omega)]
  | f + 1, p, s, h1, h2 => by
    unfold zoO zpr
    by_cases c : lg.length ≤ p
    · rw [if_pos c, if_pos c, Nat.mul_one, if_neg (by omega)]
    · rw [if_neg c, if_neg c]
      have hp := zpr_pos fa lg f (zeN fa lg p)
      have hb : zbM fa lg p = zM4 (zon fa lg 0 p (zeN fa lg p - p)) (zon fa lg 1 p (zeN fa lg p - p)) (zon fa lg 2 p (zeN fa lg p - p)) (zon fa lg 3 p (zeN fa lg p - p)) := rfl
      have hbp : 1 ≤ zbM fa lg p := zM4_pos _ _ _ _
      have hd : zmD (zon fa lg 0 p (zeN fa lg p - p)) (zon fa lg 1 p (zeN fa lg p - p)) (zon fa lg 2 p (zeN fa lg p - p)) (zon fa lg 3 p (zeN fa lg p - p)) = if 1000000 < zbM fa lg p then 1000000 else zbM fa lg p := by
        rw [hb]
        rfl
      rw [hd]
      by_cases c2 : 120 < s * zbM fa lg p
      · have e1 : 120 < s * (if 1000000 < zbM fa lg p then 1000000 else zbM fa lg p) := by
          split
          · omega
          · exact c2
        have e2 : 120 < s * (zbM fa lg p * zpr fa lg f (zeN fa lg p)) := by
          rw [← Nat.mul_assoc]
          exact Nat.lt_of_lt_of_le c2 (Nat.le_mul_of_pos_right _ hp)
        rw [if_pos e1, if_pos e2, zoO_121]
      · have e0 : ¬ 1000000 < zbM fa lg p := by
          have := Nat.le_mul_of_pos_left (zbM fa lg p) h1
          omega
        rw [if_neg e0, if_neg c2, zoO_pr fa lg f _ _ (Nat.mul_pos h1 hbp) (by omega), Nat.mul_assoc]
theorem zoA_pr (fa : Nat → Nat → Int32) (lg : List Nat) : zoA fa lg = if 120 < zpr fa lg lg.length 0 then 121 else zpr fa lg lg.length 0 := by
  unfold zoA
  rw [zoO_pr fa lg _ _ _ (by omega) (by omega), Nat.one_mul]
theorem zpr_fw {fa : Nat → Nat → Int32} {lg : List Nat} : ∀ f p : Nat, zpr fa lg f p ≤ 1000000 → zfw fa lg f p
  | 0, p, h => trivial
  | f + 1, p, h => by
    unfold zfw
    unfold zpr at h
    by_cases c : lg.length ≤ p
    · exact Or.inl c
    · rw [if_neg c] at h
      have hp := zpr_pos fa lg f (zeN fa lg p)
      have hb : 1 ≤ zbM fa lg p := zM4_pos _ _ _ _
      exact Or.inr ⟨Nat.le_trans (Nat.le_mul_of_pos_right _ hp) h, zpr_fw f _ (Nat.le_trans (Nat.le_mul_of_pos_left _ hb) h)⟩
section OVS
variable {X : zX} {d : Nat} {g : zG} {K : Option Value → zG → Prop} {KX : String → zG → Prop} {m : Nat} {fi : Nat → Int32} {ad : Nat → Nat} {fa : Nat → Nat → Int32} {lg : List Nat}
theorem zoA_le (fa : Nat → Nat → Int32) (lg : List Nat) : zoA fa lg ≤ 121 := by
  rw [zoA_pr]
  split <;> omega
theorem mp_overOrders (hok : zOk X) (hM : zMd g m fi ad fa) (hL : zLg fi fa lg) (hall : ∀ k, k < lg.length → k ∈ lg) (hnd : znd fa lg) {M : Nat} {np : Nat → Nat} (hM0 : zMo fi fa M np) {x y w : Int32}
    (h1 : ∀ i v : Nat, i < M → v < lg.length → x = nI i → y = nI v → ¬ zIn w 0 2 = 0 → zoA fa lg ≤ 120 → ∀ (g' : zG) (fi' : Nat → Int32) (fa' : Nat → Nat → Int32), zMd g' m fi' ad fa' → zNm g g' → zSc (va_up fi 34 0) fa fi' fa' → K (some (.int (zoV fi fa lg i (np i) v w (zoA fa lg)))) g')
    (h0 : ∀ e : Int32, e = (if zIn x 0 (nI M - 1) = 0 ∨ zIn y 0 (nI lg.length - 1) = 0 then 1 else if zIn w 0 2 = 0 then 2 else if zoA fa lg ≤ 120 then 0 else 3) → e ≠ 0 → ∀ g' : zG, zMd g' m (va_up fi 34 e) ad fa → zNm g g' → K (some (.int 0)) g') : zCal X (d + 5) yX3_overOrders wX3_overOrders [.ref m, .int x, .int y, .int w] g K KX := by
  have h80 := hL.2.1
  have hzo := zoA_le fa lg
  have hm6 := hM0.1
  refine mX3_overOrders (d := d + 4) hok m _ _ _ (fun E C hQ => ⟨hM.is, mp_ordersOf (d := d + 3) hok hM hL hnd ⟨_, rfl, hM.is, ?_⟩⟩)
  have fin : ∀ t1 : Int32, t1 = (if zIn x 0 (nI M - 1) = 0 ∨ zIn y 0 (nI lg.length - 1) = 0 then 0 else 1) → GW X E 7 g 28 [(0, .ref m), (1, .int x), (2, .int y), (3, .int w), (4, .int (nI (zoA fa lg)))] [.int t1, .ref m] := by
    intro t1 ht
    have G : ∀ c : Int32, c = (if zoA fa lg ≤ 120 then 1 else 0) → zIs g 3 m ∧ zCal X (d + 4) yX3_goes wX3_goes [.ref m, .int t1, .int (zIn w 0 2), .int c] g (fun r g_3 => ∃ v_4 : Int32, r = some (.int v_4) ∧ zbo v_4 ∧ (¬ v_4 = 0 → GW X E 7 g_3 58 [(0, .ref m), (1, .int x), (2, .int y), (3, .int w), (4, .int (nI (zoA fa lg))), (5, .int 0), (6, .int 0)] []) ∧ (v_4 = 0 → K (some (.int 0)) g_3)) KX := by
      intro c hc
      have key : zth t1 (zIn w 0 2) c = if zIn x 0 (nI M - 1) = 0 ∨ zIn y 0 (nI lg.length - 1) = 0 then 1 else if zIn w 0 2 = 0 then 2 else if zoA fa lg ≤ 120 then 0 else 3 := by
        unfold zth
        rw [ht, hc]
        by_cases c1 : zIn x 0 (nI M - 1) = 0 ∨ zIn y 0 (nI lg.length - 1) = 0
        · rw [if_pos c1, if_pos c1]
          rfl
        · rw [if_neg c1, if_neg c1, if_neg (show ¬ (1 : Int32) = 0 by decide)]
          by_cases c2 : zIn w 0 2 = 0
          · rw [if_pos c2, if_pos c2]
          · rw [if_neg c2, if_neg c2]
            by_cases c3 : zoA fa lg ≤ 120
            · rw [if_pos c3, if_pos c3]
              rfl
            · rw [if_neg c3, if_neg c3]
              rfl
      refine ⟨hM.is, mp_goes2 hok hM (fun z g2 a1 a2 => ⟨1, rfl, Or.inr rfl, fun _ => ?_, fun q => absurd q (by decide)⟩) (fun z g2 a1 a2 => ⟨0, rfl, Or.inl rfl, fun q => absurd rfl q, fun _ => h0 _ key z g2 a1 a2⟩)⟩
      rw [key] at z
      have c1 : ¬ (zIn x 0 (nI M - 1) = 0 ∨ zIn y 0 (nI lg.length - 1) = 0) := fun q => by
        rw [if_pos q] at z
        exact absurd z (by decide)
      rw [if_neg c1] at z
      have c2 : ¬ zIn w 0 2 = 0 := fun q => by
        rw [if_pos q] at z
        exact absurd z (by decide)
      rw [if_neg c2] at z
      have c3 : zoA fa lg ≤ 120 := Decidable.byContradiction (fun q => by
        rw [if_neg q] at z
        exact absurd z (by decide))
      obtain ⟨i, hi, rfl⟩ := zIn_n (by omega) (fun q => c1 (Or.inl q))
      obtain ⟨v, hv, rfl⟩ := zIn_n (by omega) (fun q => c1 (Or.inr q))
      have hfw : zfw fa lg lg.length 0 := by
        refine zpr_fw _ _ ?_
        rw [zoA_pr] at c3
        by_cases q : 120 < zpr fa lg lg.length 0
        · rw [if_pos q] at c3
          omega
        · omega
      have := mp_overOrders_l (d := d) (fi := va_up fi 34 0) hok (hL.f34 0) hall hnd hfw (hM0.f34 0) hi hv (all := zoA fa lg) (w := w) c3 C hQ (fun g3 fi3 fa3 b1 b2 b3 => ?_) (zoA fa lg) 0 g2 (va_up fi 34 0) fa (Nat.zero_add _).symm a1 a2 (zSc.rf _ _)
      · rw [nI_0] at this
        exact this
      · have e : ∀ k, zoV (va_up fi 34 0) fa lg i (np i) v w k = zoV fi fa lg i (np i) v w k := by
          intro k
          induction k with
          | zero => rfl
          | succ k ih =>
            unfold zoV
            rw [ih, zAn_sa (fi := fi) (fa := fa) ⟨va_up_ne _ _ (by decide), va_up_ne _ _ (by decide), rfl, rfl, rfl, rfl, rfl, rfl, rfl, rfl, rfl⟩]
        rw [e]
        exact h1 i v hi hv rfl rfl c2 c3 g3 fi3 fa3 b1 b2 b3
    refine bX3_overOrders_28 (d := d + 4) C hQ g m _ _ _ _ m _ (mp_isAnswer (d := d + 3) hok ⟨_, rfl, zIn_b _ _ _, fun z => G 0 ?_, fun z => G 1 ?_⟩)
    · have := (nI_ltI (a := 120) (b := zoA fa lg) (by omega) (by omega)).mp z
      rw [if_neg (by omega)]
    · have := mt (nI_ltI (a := 120) (b := zoA fa lg) (by omega) (by omega)).mpr z
      rw [if_pos (by omega)]
  refine mp_isMonitor (d := d + 3) hok hM ⟨_, rfl, zIn_b _ _ _, fun z => ?_, fun z => ⟨hM.is, mp_isEvent (d := d + 3) hok hM ⟨_, rfl, zIn_b _ _ _, fun z2 => ?_, fun z2 => ?_⟩⟩⟩
  · rw [hM0.2.1] at z
    exact bX3_overOrders_27 (d := d + 4) C hQ g m _ _ _ _ m (fin 0 (by rw [if_pos (Or.inl z)]))
  · rw [hL.1] at z2
    exact bX3_overOrders_27 (d := d + 4) C hQ g m _ _ _ _ m (fin 0 (by rw [if_pos (Or.inr z2)]))
  · rw [hM0.2.1] at z
    rw [hL.1] at z2
    exact fin 1 (by rw [if_neg (fun q => q.elim z z2)])
end OVS
