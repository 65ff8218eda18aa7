set_option maxRecDepth 100000
theorem zIn_c {v b : Int32} {n : Nat} (hb : b = nI n - 1) (hn : n < 2 ^ 30) (h : zIn v 0 b ≠ 0) : ∃ j : Nat, j < n ∧ v = nI j := by
  subst hb
  exact zIn_n hn h
theorem zlg_len (fa : Nat → Nat → Int32) (lg : List Nat) (its wh : Int32) : (zlg fa lg its wh).length = lg.length + 1 := by
  unfold zlg
  rw [List.length_insertIdx_of_le_length (zpc_le _ _ _ _)]
theorem zlg_mem (fa : Nat → Nat → Int32) (lg : List Nat) (its wh : Int32) (v : Nat) : v ∈ zlg fa lg its wh ↔ v = lg.length ∨ v ∈ lg := by
  unfold zlg
  exact List.mem_insertIdx (zpc_le _ _ _ _)
theorem zcm_lg {fi fi' : Nat → Int32} {fa fa' : Nat → Nat → Int32} {lg : List Nat} {its wh kd id vl : Int32} (hL : zLg fi fa lg) (hn : lg.length ≤ 79) (h : zcm fi fa lg its wh kd id vl fi' fa') : zLg fi' fa' (zlg fa lg its wh) := by
  obtain ⟨l1, l2, l3, l4, l5⟩ := hL
  obtain ⟨h1, -, h2⟩ := h
  refine ⟨?_, ?_, ?_, fun v hv => ?_, fun k hk => h2 k (by rw [zlg_len] at hk; exact hk)⟩
  · rw [h1, zlg_len]
    exact va_up_self _ _ _
  · rw [zlg_len]
    omega
  · unfold zlg
    rw [(List.perm_insertIdx _ _ (zpc_le _ _ _ _)).nodup_iff, List.nodup_cons]
    exact ⟨fun z => Nat.lt_irrefl _ (l4 _ z), l3⟩
  · rw [zlg_len]
    rcases (zlg_mem _ _ _ _ _).mp hv with z | z
    · omega
    · have := l4 v z
      omega
theorem zcm_all {fa : Nat → Nat → Int32} {lg : List Nat} {its wh : Int32} (hall : ∀ k, k < lg.length → k ∈ lg) : ∀ k, k < (zlg fa lg its wh).length → k ∈ zlg fa lg its wh := by
  intro k hk
  rw [zlg_len] at hk
  rw [zlg_mem]
  by_cases c : k = lg.length
  · exact Or.inl c
  · exact Or.inr (hall k (by omega))
theorem zMo.fa' {fi fi' : Nat → Int32} {fa fa' : Nat → Nat → Int32} {M : Nat} {np : Nat → Nat} (h : zMo fi fa M np) (h20 : fi' 20 = fi 20) (ha : ∀ j : Nat, 16 ≤ j → j ≤ 23 → fa' j = fa j) : zMo fi' fa' M np := by
  obtain ⟨h1, h2, h3⟩ := h
  refine ⟨h1, h20.trans h2, fun i hi => ?_⟩
  obtain ⟨q1, q2, q3, q4⟩ := h3 i hi
  exact ⟨q1, q2, q3.fa' (fun j a b => ha j a (by omega)), by rw [ha 23 (by omega) (by omega)]; exact q4⟩
theorem zcm_mo {fi fi' : Nat → Int32} {fa fa' : Nat → Nat → Int32} {lg : List Nat} {its wh kd id vl : Int32} {M : Nat} {np : Nat → Nat} (h : zcm fi fa lg its wh kd id vl fi' fa') (hM : zMo fi fa M np) : zMo fi' fa' M np := by
  refine hM.fa' ?_ (fun j a b => (h.2.1 j (by omega)).trans (zc2_o _ _ _ _ _ _ _ _ (by omega)))
  rw [h.1]
  unfold zc1
  rw [va_up_ne _ _ (by decide), va_up_ne _ _ (by decide)]
/-- an int of a truth -/
def zbI (b : Bool) : Int32 := if b = true then 1 else 0
theorem zbI_b (b : Bool) : zbo (zbI b) := by
  cases b
  · exact Or.inl rfl
  · exact Or.inr rfl
/-- whether one of the first k answers is FALSE that was not -/
def zgd1 (ans kp : Nat → Int32) (n : Nat) : Nat → Bool
  | 0 => false
  | k + 1 => zgd1 ans kp n k || (ans k == 0 && (k + 1 == n || !(kp k == 0)))
def zgd (gd : Nat → Int32) (ans kp : Nat → Nat → Int32) (n : Nat) : Nat → Bool
  | 0 => false
  | i + 1 => zgd gd ans kp n i || (!(gd i == 0) && zgd1 (ans i) (kp i) n n)
/-- which exception a coming event meets -/
def zxc (fi : Nat → Int32) (fa : Nat → Nat → Int32) (x1 x2 x3 x4 x5 : Int32) : Int32 :=
  if zIn x1 0 3 = 0 then 1 else if zIn x2 1000 10000 = 0 ∨ zIn x3 0 7 = 0 ∨ zIn x4 (-1) 9 = 0 ∨ zIn x5 (-1000) 1000 = 0 then 2 else if ¬ fi 2 = 0 ∨ 80 ≤ fi 3 ∨ fi 1 < fi 5 - x2 - fa 0 x1.toNatClampNeg then 3 else 0
section GRD
variable {X : zX} {d : Nat} {g : zG} {K : Option Value → zG → Prop} {KX : String → zG → Prop} {m : Nat} {fi : Nat → Int32} {ad : Nat → Nat} {fa : Nat → Nat → Int32} {lg : List Nat}
theorem mp_canCome (hok : zOk X) (hM : zMd g m fi ad fa) {x1 x2 x3 x4 x5 : Int32}
    (h1 : zxc fi fa x1 x2 x3 x4 x5 = 0 → ∀ g' : zG, zMd g' m (va_up fi 34 0) ad fa → zNm g g' → K (some (.int 1)) g')
    (h0 : zxc fi fa x1 x2 x3 x4 x5 ≠ 0 → ∀ g' : zG, zMd g' m (va_up fi 34 (zxc fi fa x1 x2 x3 x4 x5)) ad fa → zNm g g' → K (some (.int 0)) g') : zCal X (d + 2) yX3_canCome wX3_canCome [.ref m, .int x1, .int x2, .int x3, .int x4, .int x5] g K KX := by
  refine mX3_canCome (d := d + 1) hok m _ _ _ _ _ (fun E C hQ => ?_)
  have fin : ∀ t0 : Int32, t0 = (if zIn x2 1000 10000 = 0 ∨ zIn x3 0 7 = 0 ∨ zIn x4 (-1) 9 = 0 ∨ zIn x5 (-1000) 1000 = 0 then 0 else 1) → GW X E 8 g 50 [(0, .ref m), (1, .int x1), (2, .int x2)] [.int t0] := by
    intro t0 ht
    refine bX3_canCome_50 (d := d + 1) C hQ g m _ _ _ (mp_isNode hok ⟨_, rfl, zIn_b _ _ _, ?_⟩)
    have G : ∀ c : Int32, zth (zIn x1 0 3) t0 c = zxc fi fa x1 x2 x3 x4 x5 → zIs g 3 m ∧ zCal X (d + 1) yX3_goes wX3_goes [.ref m, .int (zIn x1 0 3), .int t0, .int c] g (fun r g_3 => ∃ v_4 : Int32, r = some (.int v_4) ∧ zbo v_4 ∧ zbo v_4 ∧ K (some (.int v_4)) g_3) KX := by
      intro c hc
      refine ⟨hM.is, mp_goes2 hok hM (fun z g' a1 a2 => ⟨1, rfl, Or.inr rfl, Or.inr rfl, h1 (hc.symm.trans z) g' a1 a2⟩) (fun z g' a1 a2 => ⟨0, rfl, Or.inl rfl, Or.inl rfl, h0 (fun w => z (hc.trans w)) g' ?_ a2⟩)⟩
      rw [← hc]
      exact a1
    refine ⟨fun z => G 0 ?_, fun z => ⟨_, _, hM.1, rfl, fun z2 => G 0 ?_, fun z2 => ⟨_, _, hM.1, rfl, fun z3 => G 0 ?_, fun z3 => ?_⟩⟩⟩
    · unfold zth zxc
      rw [if_pos z, if_pos z]
    · unfold zth zxc
      rw [if_neg z, if_neg z, ht, if_pos (Or.inl z2)]
      by_cases c : zIn x2 1000 10000 = 0 ∨ zIn x3 0 7 = 0 ∨ zIn x4 (-1) 9 = 0 ∨ zIn x5 (-1000) 1000 = 0
      · rw [if_pos c, if_pos c]
        rfl
      · rw [if_neg c, if_neg c]
        rfl
    · unfold zth zxc
      rw [if_neg z, if_neg z, ht, if_pos (Or.inr (Or.inl z3))]
      by_cases c : zIn x2 1000 10000 = 0 ∨ zIn x3 0 7 = 0 ∨ zIn x4 (-1) 9 = 0 ∨ zIn x5 (-1000) 1000 = 0
      · rw [if_pos c, if_pos c]
        rfl
      · rw [if_neg c, if_neg c]
        rfl
    · obtain ⟨a, ha, rfl⟩ := zIn_c (v := x1) (b := 3) (n := 4) (by decide) (by decide) z
      refine ⟨_, _, hM.1, rfl, _, _, hM.1, rfl, _, _, hM.2 0 (by decide), (zin 4 rfl (by omega) (by omega)), fun v hv => ?_⟩
      subst hv
      refine ⟨_, _, hM.1, rfl, fun z4 => G 0 ?_, fun z4 => G 1 ?_⟩
      · unfold zth zxc
        rw [if_neg z, if_neg z, ht, if_pos (Or.inr (Or.inr z4))]
        by_cases c : zIn x2 1000 10000 = 0 ∨ zIn x3 0 7 = 0 ∨ zIn x4 (-1) 9 = 0 ∨ zIn x5 (-1000) 1000 = 0
        · rw [if_pos c, if_pos c]
          rfl
        · rw [if_neg c, if_neg c]
          rfl
      · have hn : ¬ (¬ fi 2 = 0 ∨ 80 ≤ fi 3 ∨ fi 1 < fi 5 - x2 - fa 0 (nI a).toNatClampNeg) := fun w => w.elim (fun w => w z2) (fun w => w.elim z3 z4)
        unfold zth zxc
        rw [if_neg z, if_neg z, ht, if_neg hn]
        by_cases c : zIn x2 1000 10000 = 0 ∨ zIn x3 0 7 = 0 ∨ zIn x4 (-1) 9 = 0 ∨ zIn x5 (-1000) 1000 = 0
        · rw [if_pos c, if_pos c]
          rfl
        · rw [if_neg c, if_neg c]
          rfl
  have no : (zIn x2 1000 10000 = 0 ∨ zIn x3 0 7 = 0 ∨ zIn x4 (-1) 9 = 0 ∨ zIn x5 (-1000) 1000 = 0) → GW X E 8 g 49 [(0, .ref m), (1, .int x1), (2, .int x2)] [] := fun h => bX3_canCome_49 (d := d + 1) C hQ g m _ _ (fin 0 (by rw [if_pos h]))
  exact mp_in hok ⟨_, rfl, zIn_b _ _ _, fun z => no (Or.inl z), fun z => mp_isKind hok ⟨_, rfl, zIn_b _ _ _, fun z2 => no (Or.inr (Or.inl z2)), fun z2 => mp_in hok ⟨_, rfl, zIn_b _ _ _, fun z3 => no (Or.inr (Or.inr (Or.inl z3))), fun z3 => mp_in hok ⟨_, rfl, zIn_b _ _ _, fun z4 => no (Or.inr (Or.inr (Or.inr z4))), fun z4 => fin 1 (by rw [if_neg (fun w => w.elim z (fun w => w.elim z2 (fun w => w.elim z3 z4)))])⟩⟩⟩⟩
theorem mp_goesAway_2 {E : zM} (C : zC X d E RX3 cX3_goesAway 4 none "goesAway") (hQ : zQ X E K KX) {x1 : Int32} (h3 : fi 3 = nI lg.length) (hl : lg.length ≤ 79) : ∀ (c k : Nat) (g : zG) (fa' : Nat → Nat → Int32), lg.length = k + c → zMd g m fi ad fa' → (∀ j, j ≠ 12 → fa' j = fa j) → (∀ j, j < k → fa' 12 j = nI (zr lg j)) → (∀ j, k ≤ j → j < lg.length → fa' 12 (j + 1) = nI (zr lg j)) →
    (∀ (g' : zG) (fa'' : Nat → Nat → Int32), zMd g' m (va_up fi 5 x1) ad fa'' → zNm g g' → (∀ j, j ≠ 12 → fa'' j = fa j) → (∀ j, j < lg.length → fa'' 12 j = nI (zr lg j)) → K none g') → GW X E 4 g 33 [(0, .ref m), (1, .int x1), (3, .int (nI k))] []
  | 0, k, g, fa', hc, hM, hf, i1, i2, hK => by
    refine bX3_goesAway_33 C hQ g m _ _ ⟨_, _, hM.1, rfl, fun _ => ⟨_, hM.1, by simp [zMf], fun g2 e2 => ?_⟩, fun z => absurd (show fi 3 ≤ nI k by rw [h3]; exact nI_le (by omega) (by omega)) z⟩
    exact hK g2 fa' (hM.si (j := 5) e2 (by decide)) (zNm.si e2) hf (fun j hj => i1 j (by omega))
  | c + 1, k, g, fa', hc, hM, hf, i1, i2, hK => by
    refine bX3_goesAway_33 C hQ g m _ _ ⟨_, _, hM.1, rfl, fun z => absurd z (by rw [h3]; exact nI_ge (by omega) (by omega)), fun _ => ?_⟩
    rw [← nI_succ]
    refine ⟨_, _, hM.1, rfl, _, _, hM.1, rfl, _, _, hM.2 12 (by decide), (zin 80 rfl (by omega) (by omega)), fun v hv => ⟨_, _, hM.2 12 (by decide), (zin 80 rfl (by omega) (by omega)), fun g2 e2 => ?_⟩⟩
    rw [nI_clamp (by omega), i2 k (Nat.le_refl _) (by omega)] at hv
    subst hv
    rw [nI_clamp (by omega)] at e2
    have hM2 := hM.sa (j := 12) (by decide) e2
    refine mp_goesAway_2 C hQ h3 hl c (k + 1) g2 _ (by omega) hM2 (fun j hj => (va_up_ne _ _ hj).trans (hf j hj)) (fun j hj => ?_) (fun j c1 c2 => ?_) (fun g' fa'' a1 a2 a3 a4 => hK g' fa'' a1 ((zNm.sa (j := 12) (by decide) e2).trans a2) a3 a4)
    · rw [va_up_self]
      by_cases cj : j = k
      · subst cj
        rw [pk_us]
      · rw [pk_un cj]
        exact i1 j (by omega)
    · rw [va_up_self, pk_un (by omega)]
      exact i2 j (by omega) c2
theorem mp_goesAway_1 {E : zM} (C : zC X d E RX3 cX3_goesAway 4 none "goesAway") (hQ : zQ X E K KX) {x1 : Int32} (h3 : fi 3 = nI lg.length) (hl : lg.length ≤ 79) (hlt : ∀ v ∈ lg, v < lg.length) {p : Nat} (hp : p ≤ lg.length) (hM : zMd g m fi ad fa) (hi : ∀ k, k < lg.length + 1 → fa 12 k = nI (zr (lg.insertIdx p lg.length) k))
    (hK : ∀ (g' : zG) (fa' : Nat → Nat → Int32), zMd g' m (va_up fi 5 x1) ad fa' → zNm g g' → (∀ j, j ≠ 12 → fa' j = fa j) → (∀ j, j < lg.length → fa' 12 j = nI (zr lg j)) → K none g') : ∀ (c k : Nat), p = k + c → GW X E 4 g 12 [(0, .ref m), (1, .int x1), (2, .int (nI k))] []
  | 0, k, hc => by
    have : k = p := by omega
    subst this
    refine bX3_goesAway_12 C hQ g m _ _ ⟨_, _, hM.1, rfl, _, _, hM.2 12 (by decide), (zin 80 rfl (by omega) (by omega)), fun v hv => ?_⟩
    rw [nI_clamp (by omega), hi k (by omega), zr_ins hp, if_neg (Nat.lt_irrefl _), if_pos rfl] at hv
    subst hv
    refine ⟨_, _, hM.1, rfl, fun _ => mp_goesAway_2 C hQ h3 hl (lg.length - k) k g fa (by omega) hM (fun _ _ => rfl) (fun j hj => ?_) (fun j c1 c2 => ?_) hK, fun z => absurd h3.symm z⟩
    · rw [hi j (by omega), zr_ins hp, if_pos hj]
    · rw [hi (j + 1) (by omega), zr_ins hp, if_neg (by omega), if_neg (by omega), Nat.add_sub_cancel]
  | c + 1, k, hc => by
    refine bX3_goesAway_12 C hQ g m _ _ ⟨_, _, hM.1, rfl, _, _, hM.2 12 (by decide), (zin 80 rfl (by omega) (by omega)), fun v hv => ?_⟩
    rw [nI_clamp (by omega), hi k (by omega), zr_ins hp, if_pos (by omega)] at hv
    subst hv
    have hz := hlt _ (zr_mem (R := lg) (k := k) (by omega))
    refine ⟨_, _, hM.1, rfl, fun z => ?_, fun _ => ?_⟩
    · rw [h3] at z
      have := (nI_eq (by omega) (by omega)).mp z
      omega
    · rw [← nI_succ]
      exact mp_goesAway_1 C hQ h3 hl hlt hp hM hi hK c (k + 1) (by omega)
/-- the last event goes: of the numbers, and of the arrays -/
theorem mp_goesAway (hok : zOk X) (hM : zMd g m fi ad fa) {x1 : Int32} (h3 : fi 3 = nI (lg.length + 1)) (hl : lg.length ≤ 79) (hlt : ∀ v ∈ lg, v < lg.length) {p : Nat} (hp : p ≤ lg.length) (hi : ∀ k, k < lg.length + 1 → fa 12 k = nI (zr (lg.insertIdx p lg.length) k))
    (hK : ∀ (g' : zG) (fa' : Nat → Nat → Int32), zMd g' m (va_up (va_up fi 3 (nI lg.length)) 5 x1) ad fa' → zNm g g' → (∀ j, j ≠ 12 → fa' j = fa j) → (∀ j, j < lg.length → fa' 12 j = nI (zr lg j)) → K none g') : zCal X d yX3_goesAway wX3_goesAway [.ref m, .int x1] g K KX := by
  refine mX3_goesAway hok m _ (fun E C hQ => ⟨_, _, hM.1, rfl, _, hM.1, by simp [zMf], fun g2 e2 => ?_⟩)
  have hM2 := hM.si (j := 3) e2 (by decide)
  rw [h3, nI_pred] at hM2
  rw [show (0 : Int32) = nI 0 from nI_0.symm]
  exact mp_goesAway_1 C hQ (fi := va_up fi 3 (nI lg.length)) (va_up_self _ _ _) hl hlt hp hM2 hi (fun g' fa' a1 a2 a3 a4 => hK g' fa' a1 ((zNm.si e2).trans a2) a3 a4) p 0 (Nat.zero_add _).symm
theorem zgd1_s (ans kp : Nat → Int32) (n k : Nat) : zgd1 ans kp n (k + 1) = (zgd1 ans kp n k || (ans k == 0 && (k + 1 == n || !(kp k == 0)))) := rfl
theorem mp_isGuarded_e {E : zM} (C : zC X (d + 1) E RX3 cX3_isGuarded 4 (some .boolean) "isGuarded") (hQ : zQ X E K KX) (hM : zMd g m fi ad fa) {ans : Nat → Int32} {i n : Nat} {b : Bool} (hi : i < 6) (hn : n ≤ 80) (h3 : fi 3 = nI n) (h33 : ∀ k, k < n → fa 33 k = ans k)
    (hK : GW X E 4 g 4 [(0, .ref m), (1, .int (zbI (b || zgd1 ans (fun e => fa 25 (80 * i + e)) n n))), (2, .int (nI i + 1))] []) : ∀ (c k : Nat), n = k + c → GW X E 4 g 40 [(0, .ref m), (1, .int (zbI (b || zgd1 ans (fun e => fa 25 (80 * i + e)) n k))), (2, .int (nI i)), (3, .int (nI k))] []
  | 0, k, hc => by
    have : n = k := by omega
    subst this
    exact bX3_isGuarded_40 (d := d) C hQ g m _ _ _ ⟨_, _, hM.1, rfl, fun _ => hK, fun z => absurd (show fi 3 ≤ nI n by rw [h3]; exact nI_le (by omega) (by omega)) z⟩
  | c + 1, k, hc => by
    have ih := mp_isGuarded_e C hQ hM hi hn h3 h33 hK c (k + 1) (by omega)
    rw [zgd1_s, ← Bool.or_assoc] at ih
    have e80 : (nI (80 * i + k)).toNatClampNeg = 80 * i + k := nI_clamp (by omega)
    cases hb : (b || zgd1 ans (fun e => fa 25 (80 * i + e)) n k) with
    | true =>
      rw [hb, Bool.true_or] at ih
      refine bX3_isGuarded_40 (d := d) C hQ g m _ _ _ ⟨_, _, hM.1, rfl, fun z => absurd z (by rw [h3]; exact nI_ge (by omega) (by omega)), fun _ => ⟨fun _ => ?_, fun z => absurd z (by decide)⟩⟩
      rw [← nI_succ]
      exact ih
    | false =>
      rw [hb, Bool.false_or] at ih
      refine bX3_isGuarded_40 (d := d) C hQ g m _ _ _ ⟨_, _, hM.1, rfl, fun z => absurd z (by rw [h3]; exact nI_ge (by omega) (by omega)), fun _ => ⟨fun z => absurd rfl z, fun _ => ⟨_, _, hM.1, rfl, _, _, hM.2 33 (by decide), (zin 80 rfl (by omega) (by omega)), fun v hv => ?_⟩⟩⟩
      rw [nI_clamp (by omega), h33 k (by omega)] at hv
      subst hv
      rw [← nI_succ, z80]
      refine ⟨fun z => ?_, fun z => ⟨_, _, hM.1, rfl, fun z2 => ?_, fun z2 => ⟨_, _, hM.1, rfl, _, _, hM.2 25 (by decide), (zin 480 rfl (by omega) (by omega)), fun v hv => ?_⟩⟩⟩
      · rw [show (ans k == 0) = false by simpa using z] at ih
        exact ih
      · have hk : k + 1 = n := by
          rw [h3] at z2
          obtain ⟨n', rfl⟩ : ∃ n', n = n' + 1 := ⟨n - 1, by omega⟩
          rw [nI_pred] at z2
          have := (nI_eq (by omega) (by omega)).mp z2
          omega
        rw [show (ans k == 0) = true by simpa using z, show (k + 1 == n) = true by simpa using hk] at ih
        exact ih
      · have hk : ¬ k + 1 = n := by
          intro w
          refine z2 ?_
          rw [h3, ← w, nI_pred]
        rw [e80] at hv
        subst hv
        rw [show (ans k == 0) = true by simpa using z, show (k + 1 == n) = false by simpa using hk] at ih
        refine ⟨fun z3 => ?_, fun z3 => ?_⟩
        · rw [show (fa 25 (80 * i + k) == 0) = true by simpa using z3] at ih
          exact ih
        · rw [show (fa 25 (80 * i + k) == 0) = false by simpa using z3] at ih
          exact ih
/-- what the guards answer -/
def zgA (fi : Nat → Int32) (fa : Nat → Nat → Int32) (lg : List Nat) (np : Nat → Nat) (M : Nat) : Bool := zgd (fa 22) (fun i => zAn fi fa i (np i) lg lg.length) (fun i e => fa 25 (80 * i + e)) lg.length M
theorem zSc.lgg {fi fi' : Nat → Int32} {fa fa' : Nat → Nat → Int32} {lg : List Nat} (h : zSc fi fa fi' fa') (hL : zLg fi fa lg) : zLg fi' fa' lg := ⟨(h.1 3 (by decide) (by decide) (by decide)).trans hL.1, hL.2.1, hL.2.2.1, hL.2.2.2.1, fun k hk => by rw [h.2 12 (by decide) (by decide) (by decide) (by decide)]; exact hL.2.2.2.2 k hk⟩
theorem zSc.an {fi fi' : Nat → Int32} {fa fa' : Nat → Nat → Int32} {i n : Nat} {Ls : List Nat} {nE : Nat} (h : zSc fi fa fi' fa') : zAn fi' fa' i n Ls nE = zAn fi fa i n Ls nE := by
  funext v
  unfold zAn
  rw [zFd_sc h, zid_c (h.2 9 (by decide) (by decide) (by decide) (by decide))]
theorem mp_isGuarded_l (hok : zOk X) (hL : zLg fi fa lg) (hall : ∀ k, k < lg.length → k ∈ lg) {M : Nat} {np : Nat → Nat} (hM0 : zMo fi fa M np) {E : zM} (C : zC X (d + 5) E RX3 cX3_isGuarded 4 (some .boolean) "isGuarded") (hQ : zQ X E K KX)
    (hK : ∀ (g' : zG) (fi' : Nat → Int32) (fa' : Nat → Nat → Int32), zMd g' m fi' ad fa' → zNm g g' → zSc fi fa fi' fa' → K (some (.int (zbI (zgA fi fa lg np M)))) g') : ∀ (c k : Nat) (g1 : zG) (fi' : Nat → Int32) (fa' : Nat → Nat → Int32), M = k + c → zMd g1 m fi' ad fa' → zNm g g1 → zSc fi fa fi' fa' →
    GW X E 4 g1 4 [(0, .ref m), (1, .int (zbI (zgA fi fa lg np k))), (2, .int (nI k))] []
  | 0, k, g1, fi', fa', hc, hM, hN, hS => by
    have : M = k := by omega
    subst this
    refine bX3_isGuarded_4 (d := d + 4) C hQ g1 m _ _ ⟨_, _, hM.1, rfl, fun _ => ⟨zbI_b _, hK g1 fi' fa' hM hN hS⟩, fun z => absurd (show fi' 20 ≤ nI M by rw [hS.1 20 (by decide) (by decide) (by decide), hM0.2.1]; have := hM0.1; exact nI_le (by omega) (by omega)) z⟩
  | c + 1, k, g1, fi', fa', hc, hM, hN, hS => by
    obtain ⟨m1, m2, m3⟩ := hM0
    obtain ⟨q1, q2, q3, q4⟩ := m3 k (by omega)
    have hs : zgA fi fa lg np (k + 1) = (zgA fi fa lg np k || (!(fa 22 k == 0) && zgd1 (zAn fi fa k (np k) lg lg.length) (fun e => fa 25 (80 * k + e)) lg.length lg.length)) := rfl
    have h22 : fa' 22 = fa 22 := hS.2 22 (by decide) (by decide) (by decide) (by decide)
    refine bX3_isGuarded_4 (d := d + 4) C hQ g1 m _ _ ⟨_, _, hM.1, rfl, fun z => absurd z (by rw [hS.1 20 (by decide) (by decide) (by decide), m2]; exact nI_ge (by omega) (by omega)), fun _ => ⟨_, _, hM.1, rfl, _, _, hM.2 22 (by decide), (zin 6 rfl (by omega) (by omega)), fun v hv => ?_⟩⟩
    rw [nI_clamp (by omega), h22] at hv
    subst hv
    refine ⟨fun z => ?_, fun z => ⟨hM.is, mp_lines hok hM (hS.lgg hL) (fun g2 fa2 a1 a2 a3 a4 => ⟨rfl, a1.is, mp_idsOf hok a1 (n := lg.length) hL.2.1 (by rw [va_up_ne _ _ (by decide), hS.1 3 (by decide) (by decide) (by decide)]; exact hL.1) ⟨_, rfl, _, a1.1, by simp [zMf], fun g3 e3 => ?_⟩⟩)⟩⟩
    · rw [← nI_succ]
      have := mp_isGuarded_l hok hL hall ⟨m1, m2, m3⟩ C hQ hK c (k + 1) g1 fi' fa' (by omega) hM hN hS
      rw [hs, show (fa 22 k == 0) = true by simpa using z] at this
      simpa using this
    · have hM3 := a1.si (j := 31) e3 (by decide)
      have hS2 : zSc fi' fa' (va_up (va_up fi' 29 (fi' 3)) 31 (zid fa2 lg.length)) fa2 := ⟨fun j _ h2 h3 => by rw [va_up_ne _ _ h3, va_up_ne _ _ h2], fun j _ h2 _ _ => a3 j h2⟩
      have hL2 : zLn (va_up (va_up fi' 29 (fi' 3)) 31 (zid fa2 lg.length)) fa2 lg := ⟨by rw [va_up_ne _ _ (by decide)]; exact a4.1, a4.2⟩
      have hS02 := hS.trans hS2
      refine ⟨hM3.is, mp_finds hok hM3 hL2 (by omega) q1 q2 (q3.fa' (fun j h1 h2 => hS02.2 j (by omega) (by omega) (by omega) (by omega))) (by rw [hS02.2 23 (by decide) (by decide) (by decide) (by decide)]; exact q4) (fun g4 fi4 fa4 b1 b2 b3 b4 => ⟨rfl, ?_⟩)⟩
      have hS4 := hS02.trans b3.sc
      have hans : ∀ e, e < lg.length → fa4 33 e = zAn fi fa k (np k) lg lg.length e := by
        intro e he
        rw [b4 e (hall e he), va_up_self, zFd_sc hS02, zid_c (hS02.2 9 (by decide) (by decide) (by decide) (by decide))]
        rfl
      have h25 : fa4 25 = fa 25 := hS4.2 25 (by decide) (by decide) (by decide) (by decide)
      have := mp_isGuarded_e (d := d + 4) C hQ b1 (ans := zAn fi fa k (np k) lg lg.length) (i := k) (n := lg.length) (b := zgA fi fa lg np k) (by omega) hL.2.1 (by rw [hS4.1 3 (by decide) (by decide) (by decide)]; exact hL.1) hans ?_ lg.length 0 (Nat.zero_add _).symm
      · rw [h25] at this
        unfold zgd1 at this
        rw [Bool.or_false] at this
        rw [show (0 : Int32) = nI 0 from nI_0.symm]
        exact this
      · rw [h25, ← nI_succ]
        have ih := mp_isGuarded_l hok hL hall ⟨m1, m2, m3⟩ C hQ hK c (k + 1) g4 fi4 fa4 (by omega) b1 (((hN.trans a2).trans (zNm.si e3)).trans b2) hS4
        rw [hs, show (fa 22 k == 0) = false by simpa using z] at ih
        simpa using ih
theorem mp_isGuarded (hok : zOk X) (hM : zMd g m fi ad fa) (hL : zLg fi fa lg) (hall : ∀ k, k < lg.length → k ∈ lg) {M : Nat} {np : Nat → Nat} (hM0 : zMo fi fa M np)
    (hK : ∀ (g' : zG) (fi' : Nat → Int32) (fa' : Nat → Nat → Int32), zMd g' m fi' ad fa' → zNm g g' → zSc fi fa fi' fa' → K (some (.int (zbI (zgA fi fa lg np M)))) g') : zCal X (d + 5) yX3_isGuarded wX3_isGuarded [.ref m] g K KX := by
  refine mX3_isGuarded (d := d + 4) hok m (fun E C hQ => ?_)
  have := mp_isGuarded_l (d := d) hok hL hall hM0 C hQ hK M 0 g fi fa (Nat.zero_add _).symm hM (zNm.rf g) (zSc.rf _ _)
  rw [nI_0] at this
  exact this
end GRD
