set_option maxRecDepth 100000
theorem zpk_perm : ∀ (n : Nat) (A B C D : List Nat) (i : Nat), A.length + B.length + C.length + D.length = n → i < zM4 A.length B.length C.length D.length → (zpk n A B C D i).Perm (A ++ (B ++ (C ++ D)))
  | 0, A, B, C, D, i, hn, hi => by
    have h1 : A = [] := List.eq_nil_of_length_eq_zero (by omega)
    have h2 : B = [] := List.eq_nil_of_length_eq_zero (by omega)
    have h3 : C = [] := List.eq_nil_of_length_eq_zero (by omega)
    have h4 : D = [] := List.eq_nil_of_length_eq_zero (by omega)
    subst h1 h2 h3 h4
    exact List.Perm.nil
  | n + 1, A, B, C, D, i, hn, hi => by
    have hp := zM4_p A.length B.length C.length D.length (by omega)
    rw [zpk_s]
    by_cases c1 : i < zl1 (fun k => zM4 k B.length C.length D.length) A.length
    · rw [if_pos c1]
      cases A with
      | nil => exact absurd c1 (Nat.not_lt_zero _)
      | cons x A =>
        exact List.Perm.cons x (zpk_perm n A B C D i (by simp only [List.length_cons] at hn; omega) c1)
    · rw [if_neg c1]
      by_cases c2 : i < zl1 (fun k => zM4 k B.length C.length D.length) A.length + zl1 (fun k => zM4 A.length k C.length D.length) B.length
      · rw [if_pos c2]
        cases B with
        | nil => exact absurd c2 c1
        | cons x B =>
          have hz : zl1 (fun k => zM4 A.length k C.length D.length) (x :: B).length = zM4 A.length B.length C.length D.length := rfl
          rw [hz] at c2
          have ih := zpk_perm n A B C D (i - zl1 (fun k => zM4 k (x :: B).length C.length D.length) A.length) (by simp only [List.length_cons] at hn; omega) (by omega)
          exact (List.Perm.cons x ih).trans List.perm_middle.symm
      · rw [if_neg c2]
        by_cases c3 : i < zl1 (fun k => zM4 k B.length C.length D.length) A.length + zl1 (fun k => zM4 A.length k C.length D.length) B.length + zl1 (fun k => zM4 A.length B.length k D.length) C.length
        · rw [if_pos c3]
          cases C with
          | nil => exact absurd c3 c2
          | cons x C =>
            have hz : zl1 (fun k => zM4 A.length B.length k D.length) (x :: C).length = zM4 A.length B.length C.length D.length := rfl
            rw [hz] at c3
            have ih := zpk_perm n A B C D (i - (zl1 (fun k => zM4 k B.length (x :: C).length D.length) A.length + zl1 (fun k => zM4 A.length k (x :: C).length D.length) B.length)) (by simp only [List.length_cons] at hn; omega) (by omega)
            rw [← List.append_assoc] at ih ⊢
            exact (List.Perm.cons x ih).trans List.perm_middle.symm
        · rw [if_neg c3]
          cases D with
          | nil =>
            have hz : zl1 (fun e' => zM4 A.length B.length C.length e') ([] : List Nat).length = 0 := rfl
            rw [hz] at hp
            omega
          | cons x D =>
            have hz : zl1 (fun e' => zM4 A.length B.length C.length e') (x :: D).length = zM4 A.length B.length C.length D.length := rfl
            rw [hz] at hp
            have ih := zpk_perm n A B C D (i - (zl1 (fun k => zM4 k B.length C.length (x :: D).length) A.length + zl1 (fun k => zM4 A.length k C.length (x :: D).length) B.length + zl1 (fun k => zM4 A.length B.length k (x :: D).length) C.length)) (by simp only [List.length_cons] at hn; omega) (by omega)
            rw [← List.append_assoc, ← List.append_assoc] at ih ⊢
            exact (List.Perm.cons x ih).trans List.perm_middle.symm
theorem zsg_app (lg : List Nat) (p a b : Nat) : zsg lg p a ++ zsg lg (p + a) b = zsg lg p (a + b) := by
  unfold zsg
  rw [List.take_add, List.drop_drop]
theorem zbL_app {fa : Nat → Nat → Int32} {lg : List Nat} (hnd : znd fa lg) {p : Nat} (hp : p < lg.length) : zbL fa lg p 0 ++ (zbL fa lg p 1 ++ (zbL fa lg p 2 ++ zbL fa lg p 3)) = zsg lg p (zeN fa lg p - p) := by
  obtain ⟨e1, e2⟩ := zeN_le (fa := fa) (lg := lg) hp
  have hs := zon_sum hnd p (zeN fa lg p - p) (by omega)
  have h2 : zbL fa lg p 2 ++ zbL fa lg p 3 = zsg lg (zbP fa lg p 2) (zbA fa lg p 2 + zbA fa lg p 3) := zsg_app _ _ _ _
  have h1 : zbL fa lg p 1 ++ zsg lg (zbP fa lg p 2) (zbA fa lg p 2 + zbA fa lg p 3) = zsg lg (zbP fa lg p 1) (zbA fa lg p 1 + (zbA fa lg p 2 + zbA fa lg p 3)) := zsg_app _ _ _ _
  have h0 : zbL fa lg p 0 ++ zsg lg (zbP fa lg p 1) (zbA fa lg p 1 + (zbA fa lg p 2 + zbA fa lg p 3)) = zsg lg (zbP fa lg p 0) (zbA fa lg p 0 + (zbA fa lg p 1 + (zbA fa lg p 2 + zbA fa lg p 3))) := zsg_app _ _ _ _
  rw [h2, h1, h0]
  show zsg lg p _ = _
  congr 1
  unfold zbA
  omega
theorem zbL_len {fa : Nat → Nat → Int32} {lg : List Nat} (hnd : znd fa lg) {p : Nat} (hp : p < lg.length) : (zbL fa lg p 0).length = zbA fa lg p 0 ∧ (zbL fa lg p 1).length = zbA fa lg p 1 ∧ (zbL fa lg p 2).length = zbA fa lg p 2 ∧ (zbL fa lg p 3).length = zbA fa lg p 3 ∧ zbA fa lg p 0 + zbA fa lg p 1 + zbA fa lg p 2 + zbA fa lg p 3 = zeN fa lg p - p := by
  obtain ⟨e1, e2⟩ := zeN_le (fa := fa) (lg := lg) hp
  have hs := zon_sum hnd p (zeN fa lg p - p) (by omega)
  have hs' : zbA fa lg p 0 + zbA fa lg p 1 + zbA fa lg p 2 + zbA fa lg p 3 = zeN fa lg p - p := hs
  have p0 : zbP fa lg p 0 = p := rfl
  have p1 : zbP fa lg p 1 = p + zbA fa lg p 0 := rfl
  have p2 : zbP fa lg p 2 = p + zbA fa lg p 0 + zbA fa lg p 1 := rfl
  have p3 : zbP fa lg p 3 = p + zbA fa lg p 0 + zbA fa lg p 1 + zbA fa lg p 2 := rfl
  exact ⟨zsg_len (by omega), zsg_len (by omega), zsg_len (by omega), zsg_len (by omega), hs'⟩
theorem zlR_perm {fa : Nat → Nat → Int32} {lg : List Nat} (hnd : znd fa lg) : ∀ (f p i : Nat), lg.length ≤ p + f → p ≤ lg.length → (zlR fa lg f p i).Perm (lg.drop p)
  | 0, p, i, hf, hp => by
    rw [List.drop_eq_nil_of_le (by omega)]
    exact List.Perm.nil
  | f + 1, p, i, hf, hp => by
    unfold zlR
    by_cases h : lg.length ≤ p
    · rw [if_pos h, List.drop_eq_nil_of_le h]
    · rw [if_neg h]
      obtain ⟨e1, e2⟩ := zeN_le (fa := fa) (lg := lg) (p := p) (by omega)
      obtain ⟨l0, l1, l2, l3, ls⟩ := zbL_len hnd (p := p) (by omega)
      have h1 := zpk_perm (zeN fa lg p - p) (zbL fa lg p 0) (zbL fa lg p 1) (zbL fa lg p 2) (zbL fa lg p 3) (i % zbM fa lg p) (by omega) (by rw [l0, l1, l2, l3]; exact Nat.mod_lt _ (zM4_pos _ _ _ _))
      rw [zbL_app hnd (by omega)] at h1
      have h2 := zlR_perm hnd f (zeN fa lg p) (i / zbM fa lg p) (by omega) e2
      have h3 : lg.drop p = zsg lg p (zeN fa lg p - p) ++ lg.drop (zeN fa lg p) := by
        unfold zsg
        have := List.take_append_drop (zeN fa lg p - p) (lg.drop p)
        rw [List.drop_drop, show p + (zeN fa lg p - p) = zeN fa lg p by omega] at this
        exact this.symm
      rw [h3]
      exact h1.append h2
section OVR
variable {X : zX} {d : Nat} {g : zG} {K : Option Value → zG → Prop} {KX : String → zG → Prop} {m : Nat} {fi : Nat → Int32} {ad : Nat → Nat} {fa : Nat → Nat → Int32} {lg : List Nat}
theorem mp_laysOrder_l (hok : zOk X) (hL : zLg fi fa lg) (hnd : znd fa lg) {E : zM} (C : zC X (d + 1) E RX3 cX3_laysOrder 19 none "laysOrder") (hQ : zQ X E K KX) : ∀ (f p i : Nat) (g : zG) (fa' : Nat → Nat → Int32), zfw fa lg f p → lg.length ≤ p + f → p ≤ lg.length → i ≤ 1000000 → zMd g m fi ad fa' → (∀ j, j ≠ 30 → fa' j = fa j) →
    (∀ (g' : zG) (fa'' : Nat → Nat → Int32), zMd g' m fi ad fa'' → zNm g g' → (∀ j, j ≠ 30 → fa'' j = fa j) → (∀ j, j < p → fa'' 30 j = fa' 30 j) → (∀ j, j < lg.length - p → fa'' 30 (p + j) = nI (zr (zlR fa lg f p i) j)) → K none g') →
    GW X E 19 g 12 [(0, .ref m), (2, .int (nI i)), (3, .int (nI p))] []
  | 0, p, i, g, fa', hfw, hf, hp, hi, hM, hfa, hK => by
    have h80 := hL.2.1
    exact bX3_laysOrder_12 (d := d) C hQ g m _ _ ⟨_, _, hM.1, rfl, fun _ => hK g fa' hM (zNm.rf g) hfa (fun _ _ => rfl) (fun j hj => absurd hj (by omega)), fun z => absurd (show fi 3 ≤ nI p by rw [hL.1]; exact nI_le (by omega) (by omega)) z⟩
  | f + 1, p, i, g, fa', hfw, hf, hp, hi, hM, hfa, hK => by
    have h80 := hL.2.1
    have hL' : zLg fi fa' lg := ⟨hL.1, hL.2.1, hL.2.2.1, hL.2.2.2.1, fun k hk => by rw [hfa 12 (by decide)]; exact hL.2.2.2.2 k hk⟩
    have hzon : ∀ q p c, zon fa' lg q p c = zon fa lg q p c := by
      intro q p c
      induction c with
      | zero => rfl
      | succ c ih =>
        unfold zon
        rw [ih, hfa 6 (by decide)]
    have hzen : ∀ p c k, zen fa' lg p c k = zen fa lg p c k := by
      intro p c
      induction c with
      | zero => intro k; rfl
      | succ c ih =>
        intro k
        unfold zen
        rw [hfa 7 (by decide), ih]
    have hzeN : ∀ p, zeN fa' lg p = zeN fa lg p := fun p => hzen _ _ _
    refine bX3_laysOrder_12 (d := d) C hQ g m _ _ ⟨_, _, hM.1, rfl, fun z => ?_, fun z => ?_⟩
    · rw [hL.1] at z
      have hpl := (nI_leI (by omega) (by omega)).mp z
      exact hK g fa' hM (zNm.rf g) hfa (fun _ _ => rfl) (fun j hj => absurd hj (by omega))
    · rw [hL.1] at z
      have hpl := mt (nI_leI (by omega) (by omega)).mpr z
      obtain ⟨e1, e2⟩ := zeN_le (fa := fa) (lg := lg) (p := p) (by omega)
      obtain ⟨l0, l1, l2, l3, ls⟩ := zbL_len hnd (p := p) (by omega)
      obtain ⟨hbm, hfw2⟩ := hfw.resolve_left hpl
      have hbp := zM4_pos (zbA fa lg p 0) (zbA fa lg p 1) (zbA fa lg p 2) (zbA fa lg p 3)
      have hmix : zmD (zbA fa lg p 0) (zbA fa lg p 1) (zbA fa lg p 2) (zbA fa lg p 3) = zbM fa lg p := zmD_un hbm
      have p1 : zbP fa lg p 1 = p + zbA fa lg p 0 := rfl
      have p2 : zbP fa lg p 2 = p + zbA fa lg p 0 + zbA fa lg p 1 := rfl
      have p3 : zbP fa lg p 3 = p + zbA fa lg p 0 + zbA fa lg p 1 + zbA fa lg p 2 := rfl
      refine ⟨hM.is, mp_endOf hok hM hL' (by omega) ⟨_, rfl, hM.is, ?_⟩⟩
      rw [hzeN]
      refine mp_ofNode (q := 0) hok hM hL' (by omega) (by omega) e2 ⟨_, rfl, hM.is, mp_ofNode (q := 1) hok hM hL' (by omega) (by omega) e2 ⟨_, rfl, hM.is, mp_ofNode (q := 2) hok hM hL' (by omega) (by omega) e2 ⟨_, rfl, hM.is, mp_ofNode (q := 3) hok hM hL' (by omega) (by omega) e2 ⟨_, rfl, ?_⟩⟩⟩⟩
      rw [hzon, hzon, hzon, hzon]
      show zCal X d yX3_mixed wX3_mixed [.int (nI (zbA fa lg p 0)), .int (nI (zbA fa lg p 1)), .int (nI (zbA fa lg p 2)), .int (nI (zbA fa lg p 3))] g _ KX
      refine mp_mixed hok (by omega) ⟨_, rfl, ?_⟩
      rw [lN_i, hmix]
      have hbM : 1 ≤ zbM fa lg p := hbp
      refine ⟨nI_ne0 (by omega) (by omega), nI_ne0 (by omega) (by omega), ?_⟩
      rw [pk_rem (by omega) (by omega) (by omega), pk_div (by omega) (by omega) (by omega)]
      show GW X E 19 g 118 [(0, .ref m), (2, .int (nI (i / zbM fa lg p))), (4, .int (nI (zeN fa lg p))), (5, .int (nI (zbA fa lg p 0))), (6, .int (nI (zbA fa lg p 1))), (7, .int (nI (zbA fa lg p 2))), (8, .int (nI (zbA fa lg p 3))), (10, .int (nI (i % zbM fa lg p))), (11, .int (nI p)), (12, .int (nI p + nI (zbA fa lg p 0))), (13, .int (nI p + nI (zbA fa lg p 0) + nI (zbA fa lg p 1))), (14, .int (nI p + nI (zbA fa lg p 0) + nI (zbA fa lg p 1) + nI (zbA fa lg p 2))), (15, .int (nI p))] []
      rw [nI_add, nI_add, nI_add]
      refine mp_laysOrder_b (d := d) hok hL e2 C hQ (zeN fa lg p - p) _ _ _ _ p _ _ _ (i % zbM fa lg p) p g fa' ls (by omega) (by omega) (by omega) (by omega) (by omega) hbm (Nat.mod_lt _ (by omega)) hM hfa (fun g2 fa2 a1 a2 a3 a4 a5 => ?_)
      refine mp_laysOrder_l hok hL hnd C hQ f (zeN fa lg p) (i / zbM fa lg p) g2 fa2 hfw2 (by omega) e2 (Nat.le_trans (Nat.div_le_self _ _) hi) a1 a3 (fun g3 fa3 b1 b2 b3 b4 b5 => hK g3 fa3 b1 (a2.trans b2) b3 (fun j hj => (b4 j (by omega)).trans (a4 j hj)) (fun j hj => ?_))
      unfold zlR
      rw [if_neg hpl]
      have hzl := zpk_len (zeN fa lg p - p) (zbL fa lg p 0) (zbL fa lg p 1) (zbL fa lg p 2) (zbL fa lg p 3) (i % zbM fa lg p)
      by_cases cj : j < zeN fa lg p - p
      · rw [b4 (p + j) (by omega), a5 j cj, zr_app_l (by rw [hzl]; exact cj)]
        rfl
      · obtain ⟨j', hj'⟩ : ∃ j', j = (zeN fa lg p - p) + j' := ⟨j - (zeN fa lg p - p), by omega⟩
        subst hj'
        have := b5 j' (by omega)
        rw [show p + (zeN fa lg p - p + j') = zeN fa lg p + j' by omega, this]
        unfold zr
        rw [List.getD_eq_getElem?_getD, List.getD_eq_getElem?_getD, List.getElem?_append_right (by rw [hzl]; omega), hzl]
        congr 3
        omega
theorem mp_laysOrder (hok : zOk X) (hM : zMd g m fi ad fa) (hL : zLg fi fa lg) (hnd : znd fa lg) (hfw : zfw fa lg lg.length 0) {i : Nat} (hi : i ≤ 1000000)
    (hK : ∀ (g' : zG) (fa' : Nat → Nat → Int32), zMd g' m (va_up fi 29 (fi 3)) ad fa' → zNm g g' → (∀ j, j ≠ 30 → fa' j = fa j) → zLn (va_up fi 29 (fi 3)) fa' (zlR fa lg lg.length 0 i) → K none g') : zCal X (d + 1) yX3_laysOrder wX3_laysOrder [.ref m, .int (nI i)] g K KX := by
  have hper := zlR_perm hnd lg.length 0 i (by omega) (by omega)
  rw [List.drop_zero] at hper
  refine mX3_laysOrder hok m _ (fun E C hQ => ⟨_, _, hM.1, rfl, _, hM.1, by simp [zMf], fun g2 e2 => ?_⟩)
  have hM2 := hM.si (j := 29) e2 (by decide)
  have hL2 : zLg (va_up fi 29 (fi 3)) fa lg := ⟨(va_up_ne _ _ (by decide)).trans hL.1, hL.2⟩
  rw [show (0 : Int32) = nI 0 from nI_0.symm]
  refine mp_laysOrder_l hok hL2 hnd C hQ lg.length 0 i g2 fa hfw (by omega) (by omega) hi hM2 (fun _ _ => rfl) (fun g3 fa3 a1 a2 a3 a4 a5 => hK g3 fa3 a1 ((zNm.si e2).trans a2) a3 ⟨?_, ?_, hper.nodup_iff.mpr hL.2.2.1, fun v hv => ?_, fun k hk => ?_⟩)
  · rw [va_up_self, hL.1, hper.length_eq]
  · rw [hper.length_eq]
    exact hL.2.1
  · have := hL.2.2.2.1 v (hper.mem_iff.mp hv)
    have := hL.2.1
    omega
  · rw [hper.length_eq] at hk
    have := a5 k (by omega)
    rw [Nat.zero_add] at this
    exact this
/-- in how many of the first k orders the answer is w -/
def zoV (fi : Nat → Int32) (fa : Nat → Nat → Int32) (lg : List Nat) (i n v : Nat) (w : Int32) : Nat → Int32
  | 0 => 0
  | k + 1 => zoV fi fa lg i n v w k + (if zAn fi fa i n (zlR fa lg lg.length 0 k) lg.length v = w then 1 else 0)
theorem mp_overOrders_l (hok : zOk X) (hL : zLg fi fa lg) (hall : ∀ k, k < lg.length → k ∈ lg) (hnd : znd fa lg) (hfw : zfw fa lg lg.length 0) {M : Nat} {np : Nat → Nat} (hM0 : zMo fi fa M np) {i v all : Nat} {w : Int32} (hi : i < M) (hv : v < lg.length) (ha : all ≤ 120) {E : zM} (C : zC X (d + 5) E RX3 cX3_overOrders 7 (some .int) "overOrders") (hQ : zQ X E K KX)
    (hK : ∀ (g' : zG) (fi' : Nat → Int32) (fa' : Nat → Nat → Int32), zMd g' m fi' ad fa' → zNm g g' → zSc fi fa fi' fa' → K (some (.int (zoV fi fa lg i (np i) v w all))) g') : ∀ (c k : Nat) (g1 : zG) (fi' : Nat → Int32) (fa' : Nat → Nat → Int32), all = k + c → zMd g1 m fi' ad fa' → zNm g g1 → zSc fi fa fi' fa' →
    GW X E 7 g1 58 [(0, .ref m), (1, .int (nI i)), (2, .int (nI v)), (3, .int w), (4, .int (nI all)), (5, .int (zoV fi fa lg i (np i) v w k)), (6, .int (nI k))] []
  | 0, k, g1, fi', fa', hc, hM, hN, hS => by
    have : k = all := by omega
    subst this
    exact bX3_overOrders_58 (d := d + 4) C hQ g1 m _ _ _ _ _ _ ⟨fun _ => hK g1 fi' fa' hM hN hS, fun z => absurd (nI_le (Nat.le_refl _) (by omega)) z⟩
  | c + 1, k, g1, fi', fa', hc, hM, hN, hS => by
    obtain ⟨m1, m2, m3⟩ := hM0
    obtain ⟨q1, q2, q3, q4⟩ := m3 i hi
    have h80 := hL.2.1
    have h6 : fa' 6 = fa 6 := hS.2 6 (by decide) (by decide) (by decide) (by decide)
    have h7 : fa' 7 = fa 7 := hS.2 7 (by decide) (by decide) (by decide) (by decide)
    have hnd' : znd fa' lg := by
      unfold znd
      rw [h6]
      exact hnd
    have hzon : ∀ q p c, zon fa' lg q p c = zon fa lg q p c := by
      intro q p c
      induction c with
      | zero => rfl
      | succ c ih =>
        unfold zon
        rw [ih, h6]
    have hzen : ∀ p c k, zen fa' lg p c k = zen fa lg p c k := by
      intro p c
      induction c with
      | zero => intro k; rfl
      | succ c ih =>
        intro k
        unfold zen
        rw [h7, ih]
    have hbA : zbA fa' lg = zbA fa lg := by
      funext p q
      unfold zbA zeN
      rw [hzen, hzon]
    have hbP : zbP fa' lg = zbP fa lg := by
      funext p q
      induction q with
      | zero => rfl
      | succ q ih =>
        unfold zbP
        rw [ih, hbA]
    have hbL : zbL fa' lg = zbL fa lg := by
      funext p q
      unfold zbL
      rw [hbA, hbP]
    have hbM : zbM fa' lg = zbM fa lg := by
      funext p
      unfold zbM
      rw [hbA]
    have hlR : ∀ f p i, zlR fa' lg f p i = zlR fa lg f p i := by
      intro f
      induction f with
      | zero => intro p i; rfl
      | succ f ih =>
        intro p i
        unfold zlR
        rw [ih, hbL, hbM]
        unfold zeN
        rw [hzen]
    have hfw0 : ∀ f p, zfw fa lg f p → zfw fa' lg f p := by
      intro f
      induction f with
      | zero => intro p h; trivial
      | succ f ih =>
        intro p h
        unfold zfw at h ⊢
        rw [hbM]
        unfold zeN at h ⊢
        rw [hzen]
        exact h.imp_right (fun w => ⟨w.1, ih _ w.2⟩)
    have hfw' : zfw fa' lg lg.length 0 := hfw0 _ _ hfw
    refine bX3_overOrders_58 (d := d + 4) C hQ g1 m _ _ _ _ _ _ ⟨fun z => absurd z (nI_ge (by omega) (by omega)), fun _ => ⟨hM.is, mp_laysOrder (d := d + 3) hok hM (hS.lgg hL) hnd' hfw' (i := k) (by omega) (fun g2 fa2 a1 a2 a3 a4 => ⟨rfl, a1.is, mp_idsOf hok a1 (n := lg.length) h80 (by rw [va_up_ne _ _ (by decide), hS.1 3 (by decide) (by decide) (by decide)]; exact hL.1) ⟨_, rfl, _, a1.1, by simp [zMf], fun g3 e3 => ?_⟩⟩)⟩⟩
    rw [hlR] at a4
    have hM3 := a1.si (j := 31) e3 (by decide)
    have hS2 : zSc fi' fa' (va_up (va_up fi' 29 (fi' 3)) 31 (zid fa2 lg.length)) fa2 := ⟨fun j _ h2 h3 => by rw [va_up_ne _ _ h3, va_up_ne _ _ h2], fun j _ h2 _ _ => a3 j h2⟩
    have hL2 : zLn (va_up (va_up fi' 29 (fi' 3)) 31 (zid fa2 lg.length)) fa2 (zlR fa lg lg.length 0 k) := ⟨by rw [va_up_ne _ _ (by decide)]; exact a4.1, a4.2⟩
    have hS02 := hS.trans hS2
    have hper := zlR_perm hnd lg.length 0 k (by omega) (by omega)
    rw [List.drop_zero] at hper
    refine ⟨hM3.is, mp_finds (d := d) (n := np i) hok hM3 hL2 (by omega) q1 q2 (q3.fa' (fun j h1 h2 => hS02.2 j (by omega) (by omega) (by omega) (by omega))) (by rw [hS02.2 23 (by decide) (by decide) (by decide) (by decide)]; exact q4) (fun g4 fi4 fa4 b1 b2 b3 b4 => ⟨rfl, _, _, b1.1, rfl, _, _, b1.2 33 (by decide), (zin 80 rfl (by omega) (by omega)), fun x hx => ?_⟩)⟩
    have hS4 := hS02.trans b3.sc
    rw [nI_clamp (by omega), b4 v (hper.mem_iff.mpr (hall v hv)), va_up_self, zFd_sc hS02, zid_c (hS02.2 9 (by decide) (by decide) (by decide) (by decide))] at hx
    subst hx
    rw [← nI_succ]
    have ih := mp_overOrders_l hok hL hall hnd hfw ⟨m1, m2, m3⟩ hi hv ha C hQ hK c (k + 1) g4 fi4 fa4 (by omega) b1 (((hN.trans a2).trans (zNm.si e3)).trans b2) hS4
    unfold zoV zAn at ih
    refine ⟨fun z => ?_, fun z => ?_⟩
    · rw [if_neg z] at ih
      exact ih
    · rw [if_pos z] at ih
      exact ih
end OVR
