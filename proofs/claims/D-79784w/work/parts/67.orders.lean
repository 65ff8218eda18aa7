set_option maxRecDepth 100000
/-- how many of the c events from place p on are of node q -/
def zon (fa : Nat → Nat → Int32) (lg : List Nat) (q p : Nat) : Nat → Nat
  | 0 => 0
  | c + 1 => zon fa lg q p c + (if fa 6 (zr lg (p + c)) = nI q then 1 else 0)
/-- the first place behind the events of the time of that at p -/
def zen (fa : Nat → Nat → Int32) (lg : List Nat) (p : Nat) : Nat → Nat → Nat
  | 0, k => k
  | c + 1, k => if fa 7 (zr lg k) = fa 7 (zr lg p) then zen fa lg p c (k + 1) else k
def zeN (fa : Nat → Nat → Int32) (lg : List Nat) (p : Nat) : Nat := zen fa lg p (lg.length - p) p
theorem zen_le (fa : Nat → Nat → Int32) (lg : List Nat) (p : Nat) : ∀ c k : Nat, k ≤ zen fa lg p c k ∧ zen fa lg p c k ≤ k + c
  | 0, k => ⟨Nat.le_refl _, Nat.le_refl _⟩
  | c + 1, k => by
    have := zen_le fa lg p c (k + 1)
    unfold zen
    split <;> omega
theorem zeN_le {fa : Nat → Nat → Int32} {lg : List Nat} {p : Nat} (h : p < lg.length) : p < zeN fa lg p ∧ zeN fa lg p ≤ lg.length := by
  unfold zeN
  obtain ⟨c, hc⟩ : ∃ c, lg.length - p = c + 1 := ⟨lg.length - p - 1, by omega⟩
  rw [hc]
  have := zen_le fa lg p c (p + 1)
  unfold zen
  rw [if_pos rfl]
  omega
theorem zon_le (fa : Nat → Nat → Int32) (lg : List Nat) (q p : Nat) : ∀ c : Nat, zon fa lg q p c ≤ c
  | 0 => Nat.le_refl _
  | c + 1 => by
    have := zon_le fa lg q p c
    unfold zon
    split <;> omega
/-- the nodes of events are 0 to 3 -/
def znd (fa : Nat → Nat → Int32) (lg : List Nat) : Prop := ∀ v ∈ lg, ∃ q : Nat, q < 4 ∧ fa 6 v = nI q
theorem zon_sum {fa : Nat → Nat → Int32} {lg : List Nat} (h : znd fa lg) (p : Nat) : ∀ c : Nat, p + c ≤ lg.length → zon fa lg 0 p c + zon fa lg 1 p c + zon fa lg 2 p c + zon fa lg 3 p c = c
  | 0, _ => rfl
  | c + 1, hc => by
    have ih := zon_sum h p c (by omega)
    obtain ⟨q, hq, e⟩ := h _ (zr_mem (R := lg) (k := p + c) (by omega))
    unfold zon
    rw [e]
    have e9 : ∀ j : Nat, j < 4 → (nI q = nI j ↔ q = j) := fun j hj => nI_eq (by omega) (by omega)
    rw [show (if nI q = nI 0 then 1 else 0) = (if q = 0 then 1 else 0) by simp only [e9 0 (by omega)], show (if nI q = nI 1 then 1 else 0) = (if q = 1 then 1 else 0) by simp only [e9 1 (by omega)], show (if nI q = nI 2 then 1 else 0) = (if q = 2 then 1 else 0) by simp only [e9 2 (by omega)], show (if nI q = nI 3 then 1 else 0) = (if q = 3 then 1 else 0) by simp only [e9 3 (by omega)]]
    have : q = 0 ∨ q = 1 ∨ q = 2 ∨ q = 3 := by omega
    rcases this with rfl | rfl | rfl | rfl <;> simp <;> omega
/-- how many orders there are, from place p on, times s, up to 121 -/
def zoO (fa : Nat → Nat → Int32) (lg : List Nat) : Nat → Nat → Nat → Nat
  | 0, _, s => s
  | f + 1, p, s => if lg.length ≤ p then s else zoO fa lg f (zeN fa lg p) (if 120 < s * zmD (zon fa lg 0 p (zeN fa lg p - p)) (zon fa lg 1 p (zeN fa lg p - p)) (zon fa lg 2 p (zeN fa lg p - p)) (zon fa lg 3 p (zeN fa lg p - p)) then 121 else s * zmD (zon fa lg 0 p (zeN fa lg p - p)) (zon fa lg 1 p (zeN fa lg p - p)) (zon fa lg 2 p (zeN fa lg p - p)) (zon fa lg 3 p (zeN fa lg p - p)))
def zoA (fa : Nat → Nat → Int32) (lg : List Nat) : Nat := zoO fa lg lg.length 0 1
theorem zmD_le (a b c e : Nat) : zmD a b c e ≤ 1000000 := by
  unfold zmD
  split <;> omega
section ORD
variable {X : zX} {d : Nat} {g : zG} {K : Option Value → zG → Prop} {KX : String → zG → Prop} {m : Nat} {fi : Nat → Int32} {ad : Nat → Nat} {fa : Nat → Nat → Int32} {lg : List Nat}
theorem mp_ofNode_l (hM : zMd g m fi ad fa) (hL : zLg fi fa lg) {q p n : Nat} (hq : q < 4) (hn : p + n ≤ lg.length) {E : zM} (C : zC X d E RX3 cX3_ofNode 6 (some .int) "ofNode") (hQ : zQ X E K KX) (hK : K (some (.int (nI (zon fa lg q p n)))) g) : ∀ (c k : Nat), n = k + c → GW X E 6 g 6 [(0, .ref m), (2, .int (nI (p + n))), (3, .int (nI q)), (4, .int (nI (zon fa lg q p k))), (5, .int (nI (p + k)))] []
  | 0, k, hc => by
    have : n = k := by omega
    subst this
    exact bX3_ofNode_6 C hQ g m _ _ _ _ ⟨fun _ => hK, fun z => absurd (nI_le (Nat.le_refl _) (by have := hL.2.1; omega)) z⟩
  | c + 1, k, hc => by
    have h80 := hL.2.1
    have ih := mp_ofNode_l hM hL hq hn C hQ hK c (k + 1) (by omega)
    unfold zon at ih
    have hv := hL.2.2.2.1 _ (zr_mem (R := lg) (k := p + k) (by omega))
    refine bX3_ofNode_6 C hQ g m _ _ _ _ ⟨fun z => absurd z (nI_ge (by omega) (by omega)), fun _ => ⟨_, _, hM.1, rfl, _, _, hM.1, rfl, _, _, hM.2 12 (by decide), (zin 80 rfl (by omega) (by omega)), fun v hv2 => ?_⟩⟩
    rw [nI_clamp (by omega), hL.2.2.2.2 _ (by omega)] at hv2
    subst hv2
    refine ⟨_, _, hM.2 6 (by decide), (zin 80 rfl (by omega) (by omega)), fun v hv2 => ?_⟩
    rw [nI_clamp (by omega)] at hv2
    subst hv2
    rw [← nI_succ]
    refine ⟨fun z => ?_, fun z => ?_⟩
    · rw [if_neg z] at ih
      rw [Int32.add_zero]
      exact ih
    · rw [if_pos z, nI_succ] at ih
      exact ih
theorem mp_ofNode (hok : zOk X) (hM : zMd g m fi ad fa) (hL : zLg fi fa lg) {q p e : Nat} (hq : q < 4) (hpe : p ≤ e) (hn : e ≤ lg.length) (hK : K (some (.int (nI (zon fa lg q p (e - p))))) g) : zCal X d yX3_ofNode wX3_ofNode [.ref m, .int (nI p), .int (nI e), .int (nI q)] g K KX := by
  refine mX3_ofNode hok m _ _ _ (fun E C hQ => ?_)
  have := mp_ofNode_l hM hL hq (p := p) (n := e - p) (by omega) C hQ hK (e - p) 0 (by omega)
  rw [show p + (e - p) = e by omega] at this
  exact this
theorem mp_endOf_l (hM : zMd g m fi ad fa) (hL : zLg fi fa lg) {p : Nat} (hp : p < lg.length) {E : zM} (C : zC X d E RX3 cX3_endOf 3 (some .int) "endOf") (hQ : zQ X E K KX) : ∀ (c k : Nat), lg.length = k + c → K (some (.int (nI (zen fa lg p c k)))) g → GW X E 3 g 2 [(0, .ref m), (1, .int (nI p)), (2, .int (nI k))] []
  | 0, k, hc, hK => by
    have h80 := hL.2.1
    exact bX3_endOf_2 C hQ g m _ _ ⟨_, _, hM.1, rfl, fun _ => hK, fun z => absurd (show fi 3 ≤ nI k by rw [hL.1]; exact nI_le (by omega) (by omega)) z⟩
  | c + 1, k, hc, hK => by
    have h80 := hL.2.1
    have hv := hL.2.2.2.1 _ (zr_mem (R := lg) (k := k) (by omega))
    have hv2 := hL.2.2.2.1 _ (zr_mem (R := lg) (k := p) (by omega))
    unfold zen at hK
    refine bX3_endOf_2 C hQ g m _ _ ⟨_, _, hM.1, rfl, fun z => absurd z (by rw [hL.1]; exact nI_ge (by omega) (by omega)), fun _ => ⟨_, _, hM.1, rfl, _, _, hM.1, rfl, _, _, hM.2 12 (by decide), (zin 80 rfl (by omega) (by omega)), fun v h1 => ?_⟩⟩
    rw [nI_clamp (by omega), hL.2.2.2.2 _ (by omega)] at h1
    subst h1
    refine ⟨_, _, hM.2 7 (by decide), (zin 80 rfl (by omega) (by omega)), fun v h1 => ⟨_, _, hM.1, rfl, _, _, hM.1, rfl, _, _, hM.2 12 (by decide), (zin 80 rfl (by omega) (by omega)), fun v2 h2 => ?_⟩⟩
    rw [nI_clamp (by omega)] at h1
    rw [nI_clamp (by omega), hL.2.2.2.2 _ (by omega)] at h2
    subst h1 h2
    refine ⟨_, _, hM.2 7 (by decide), (zin 80 rfl (by omega) (by omega)), fun v h1 => ?_⟩
    rw [nI_clamp (by omega)] at h1
    subst h1
    rw [← nI_succ]
    refine ⟨fun z => ?_, fun z => ?_⟩
    · rw [if_neg z] at hK
      exact hK
    · rw [if_pos z] at hK
      exact mp_endOf_l hM hL hp C hQ c (k + 1) (by omega) hK
theorem mp_endOf (hok : zOk X) (hM : zMd g m fi ad fa) (hL : zLg fi fa lg) {p : Nat} (hp : p < lg.length) (hK : K (some (.int (nI (zeN fa lg p)))) g) : zCal X d yX3_endOf wX3_endOf [.ref m, .int (nI p)] g K KX :=
  mX3_endOf hok m _ (fun E C hQ => mp_endOf_l hM hL hp C hQ (lg.length - p) p (by omega) hK)
theorem mp_ordersOf_l (hok : zOk X) (hM : zMd g m fi ad fa) (hL : zLg fi fa lg) (hnd : znd fa lg) {E : zM} (C : zC X (d + 1) E RX3 cX3_ordersOf 5 (some .int) "ordersOf") (hQ : zQ X E K KX) : ∀ (f p s : Nat), lg.length ≤ p + f → p ≤ lg.length → s ≤ 121 → K (some (.int (nI (zoO fa lg f p s)))) g → GW X E 5 g 4 [(0, .ref m), (1, .long (lN s)), (3, .int (nI p))] []
  | 0, p, s, hf, hp, hs, hK => by
    have h80 := hL.2.1
    refine bX3_ordersOf_4 (d := d) C hQ g m _ _ ⟨_, _, hM.1, rfl, fun _ => ?_, fun z => absurd (show fi 3 ≤ nI p by rw [hL.1]; exact nI_le (by omega) (by omega)) z⟩
    rw [lN_i]
    exact hK
  | f + 1, p, s, hf, hp, hs, hK => by
    have h80 := hL.2.1
    unfold zoO at hK
    refine bX3_ordersOf_4 (d := d) C hQ g m _ _ ⟨_, _, hM.1, rfl, fun z => ?_, fun z => ?_⟩
    · rw [hL.1] at z
      have := (nI_leI (by omega) (by omega)).mp z
      rw [if_pos this] at hK
      rw [lN_i]
      exact hK
    · rw [hL.1] at z
      have hp2 := mt (nI_leI (by omega) (by omega)).mpr z
      rw [if_neg hp2] at hK
      obtain ⟨e1, e2⟩ := zeN_le (fa := fa) (lg := lg) (p := p) (by omega)
      have hsum := zon_sum hnd p (zeN fa lg p - p) (by omega)
      have hmd := zmD_le (zon fa lg 0 p (zeN fa lg p - p)) (zon fa lg 1 p (zeN fa lg p - p)) (zon fa lg 2 p (zeN fa lg p - p)) (zon fa lg 3 p (zeN fa lg p - p))
      refine ⟨hM.is, mp_endOf hok hM hL (by omega) ⟨_, rfl, hM.is, mp_ofNode (q := 0) hok hM hL (by omega) (by omega) e2 ⟨_, rfl, hM.is, mp_ofNode (q := 1) hok hM hL (by omega) (by omega) e2 ⟨_, rfl, hM.is, mp_ofNode (q := 2) hok hM hL (by omega) (by omega) e2 ⟨_, rfl, hM.is, mp_ofNode (q := 3) hok hM hL (by omega) (by omega) e2 ⟨_, rfl, mp_mixed hok (by omega) ⟨_, rfl, ?_⟩⟩⟩⟩⟩⟩⟩
      generalize zmD (zon fa lg 0 p (zeN fa lg p - p)) (zon fa lg 1 p (zeN fa lg p - p)) (zon fa lg 2 p (zeN fa lg p - p)) (zon fa lg 3 p (zeN fa lg p - p)) = mm at hmd hK ⊢
      have hv : s * mm < 2 ^ 31 := by
        have := Nat.mul_le_mul hs hmd
        omega
      rw [lN_mul, lg_cmp_le, show (120 : Int64) = lN 120 from rfl, lN_le hv (by omega)]
      refine ⟨fun w => ?_, fun w => ?_⟩
      · rw [if_neg (by omega)] at hK
        exact mp_ordersOf_l hok hM hL hnd C hQ f _ _ (by omega) e2 (by omega) hK
      · rw [if_pos (by omega)] at hK
        exact mp_ordersOf_l hok hM hL hnd C hQ f _ 121 (by omega) e2 (Nat.le_refl _) hK
theorem mp_ordersOf (hok : zOk X) (hM : zMd g m fi ad fa) (hL : zLg fi fa lg) (hnd : znd fa lg) (hK : K (some (.int (nI (zoA fa lg)))) g) : zCal X (d + 1) yX3_ordersOf wX3_ordersOf [.ref m] g K KX := by
  refine mX3_ordersOf hok m (fun E C hQ => ?_)
  exact mp_ordersOf_l hok hM hL hnd C hQ lg.length 0 1 (by omega) (by omega) (by omega) hK
theorem mp_orders (hok : zOk X) (hM : zMd g m fi ad fa) (hL : zLg fi fa lg) (hnd : znd fa lg) (hK : ∀ g' : zG, zMd g' m (va_up fi 34 0) ad fa → zNm g g' → K (some (.int (nI (zoA fa lg)))) g') : zCal X (d + 2) yX3_orders wX3_orders [.ref m] g K KX :=
  mX3_orders (d := d + 1) hok m ⟨hM.is, mp_ordersOf (d := d) hok hM hL hnd ⟨_, rfl, hM.is, mp_tells hok hM (fun g2 a1 a2 => ⟨_, rfl, hK g2 a1 a2⟩)⟩⟩
end ORD
