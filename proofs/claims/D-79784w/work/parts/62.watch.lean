set_option maxRecDepth 100000
/-- what a watch leaves, ahead of its answers -/
def zw1 (fi : Nat → Int32) (M : Nat) : Nat → Int32 := va_up (va_up (va_up (va_up fi 34 0) 13 0) 15 0) 20 (nI (M + 1))
def zwc (fa : Nat → Nat → Int32) (b n : Nat) : Nat → Nat → Int32 := va_up (va_up (va_up (va_up fa 16 (va_cpy (fa 16) (fa 16) 0 b n)) 17 (va_cpy (fa 17) (fa 17) 0 b n)) 18 (va_cpy (fa 18) (fa 18) 0 b n)) 19 (va_cpy (fa 19) (fa 19) 0 b n)
def zw2 (fa : Nat → Nat → Int32) (M n : Nat) (x1 x2 : Int32) : Nat → Nat → Int32 := va_up (va_up (va_up (va_up (zwc fa (192 + 24 * M) n) 23 (upd (fa 23) M (nI n))) 21 (upd (fa 21) M x1)) 22 (upd (fa 22) M x2)) 24 (upd (fa 24) M 0)
theorem zcpy_s (f : Nat → Int32) (b k : Nat) : upd (va_cpy f f 0 b k) (b + k) (f k) = va_cpy f f 0 b (k + 1) := by
  funext j
  unfold upd va_cpy
  by_cases c : j = b + k
  · subst c
    rw [if_pos rfl, if_pos (by omega)]
    congr 1
    omega
  · rw [if_neg c]
    by_cases c2 : b ≤ j ∧ j < b + k
    · rw [if_pos c2, if_pos (by omega)]
    · rw [if_neg c2, if_neg (by omega)]
theorem zcpy_0 (f : Nat → Int32) (b : Nat) : va_cpy f f 0 b 0 = f := by
  funext j
  unfold va_cpy
  rw [if_neg (by omega)]
theorem zcpy_i (f : Nat → Int32) (b n p : Nat) (h : p < n) : va_cpy f f 0 b n (b + p) = f p := by
  unfold va_cpy
  rw [if_pos (by omega)]
  congr 1
  omega
theorem zcpy_o (f : Nat → Int32) (b n p : Nat) (h : p < b ∨ b + n ≤ p) : va_cpy f f 0 b n p = f p := by
  unfold va_cpy
  rw [if_neg (by omega)]
theorem zwc_o (fa : Nat → Nat → Int32) (b n : Nat) {j : Nat} (h : j < 16 ∨ 19 < j) : zwc fa b n j = fa j := by
  unfold zwc
  rw [va_up_ne _ _ (by omega), va_up_ne _ _ (by omega), va_up_ne _ _ (by omega), va_up_ne _ _ (by omega)]
theorem zwc_i (fa : Nat → Nat → Int32) (b n : Nat) {j : Nat} (h : 16 ≤ j ∧ j ≤ 19) : zwc fa b n j = va_cpy (fa j) (fa j) 0 b n := by
  have : j = 16 ∨ j = 17 ∨ j = 18 ∨ j = 19 := by omega
  unfold zwc
  rcases this with rfl | rfl | rfl | rfl <;> simp [va_up]
theorem zw2_i (fa : Nat → Nat → Int32) (M n : Nat) (x1 x2 : Int32) {j : Nat} (h : j ≤ 20 ∨ 24 < j) : zw2 fa M n x1 x2 j = zwc fa (192 + 24 * M) n j := by
  unfold zw2
  rw [va_up_ne _ _ (by omega), va_up_ne _ _ (by omega), va_up_ne _ _ (by omega), va_up_ne _ _ (by omega)]
theorem zwf_cpy {fa : Nat → Nat → Int32} {M n : Nat} {x1 x2 : Int32} (h : zwf fa 0 n) : zwf (zw2 fa M n x1 x2) (192 + 24 * M) n := by
  intro p hp
  obtain ⟨w, h1, h2, h3, h4, h5, h6, h7⟩ := h p hp
  have e16 : ∀ q, q < n → zw2 fa M n x1 x2 16 (192 + 24 * M + q) = fa 16 (0 + q) := fun q hq => by
    rw [zw2_i _ _ _ _ _ (by omega), zwc_i _ _ _ (by omega), zcpy_i _ _ _ _ hq, Nat.zero_add]
  have e19 : ∀ q, q < n → zw2 fa M n x1 x2 19 (192 + 24 * M + q) = fa 19 (0 + q) := fun q hq => by
    rw [zw2_i _ _ _ _ _ (by omega), zwc_i _ _ _ (by omega), zcpy_i _ _ _ _ hq, Nat.zero_add]
  have es : ∀ q, q < n → zsz (zw2 fa M n x1 x2) (192 + 24 * M + q) = zsz fa (0 + q) := fun q hq => by
    unfold zsz
    rw [e19 q hq]
  refine ⟨w, h1, by rw [e16 p hp]; exact h2, by rw [es p hp, e19 p hp]; exact h3, by rw [es p hp]; exact h4, fun c => by rw [es p hp]; exact h5 c, fun c => ?_, fun c => ?_⟩
  · have := h6 c
    rw [es p hp, es (p - 1) (by omega)]
    exact this
  · have := h7 c
    rw [es p hp, es (p - 1) (by omega), es (p - 1 - _) (by omega)]
    exact this
theorem zwf.cg {fa fa' : Nat → Nat → Int32} {base n : Nat} (h : zwf fa base n) (h1 : ∀ p, p < n → fa' 16 (base + p) = fa 16 (base + p)) (h2 : ∀ p, p < n → fa' 19 (base + p) = fa 19 (base + p)) : zwf fa' base n := by
  intro p hp
  obtain ⟨w, a1, a2, a3, a4, a5, a6, a7⟩ := h p hp
  have es : ∀ q, q < n → zsz fa' (base + q) = zsz fa (base + q) := fun q hq => by
    unfold zsz
    rw [h2 q hq]
  refine ⟨w, a1, by rw [h1 p hp]; exact a2, by rw [es p hp, h2 p hp]; exact a3, by rw [es p hp]; exact a4, fun c => by rw [es p hp]; exact a5 c, fun c => ?_, fun c => ?_⟩
  · have := a6 c
    rw [es p hp, es (p - 1) (by omega)]
    exact this
  · have := a7 c
    rw [es p hp, es (p - 1) (by omega), es (p - 1 - _) (by omega)]
    exact this
/-- what the watch leaves -/
def zwt (fi : Nat → Int32) (fa : Nat → Nat → Int32) (lg : List Nat) (M n : Nat) (x1 x2 : Int32) (fi' : Nat → Int32) (fa' : Nat → Nat → Int32) : Prop :=
  zkF (zw1 fi M) fi' ∧ zkR (zw2 fa M n x1 x2) (zAn (zw1 fi M) (zw2 fa M n x1 x2) M n lg lg.length) (nI lg.length) M 0 lg.length fa'
section WTC
variable {X : zX} {d : Nat} {g : zG} {K : Option Value → zG → Prop} {KX : String → zG → Prop} {m : Nat} {fi : Nat → Int32} {ad : Nat → Nat} {fa : Nat → Nat → Int32} {lg : List Nat} {P : Nat} {sz : Nat → Nat}
theorem mp_watch_l (hok : zOk X) (hL : zLg fi fa lg) (hall : ∀ k, k < lg.length → k ∈ lg) {M n : Nat} (hM6 : M < 6) (h20 : fi 20 = nI M) (h15 : fi 15 = nI n) (hn : n ≤ 24) (hn0 : 0 < n) (hw : zwf fa 0 n) {x1 x2 : Int32} (hx1 : zbo x1) (hx2 : zbo x2) {E : zM} (C : zC X (d + 6) E RX3 cX3_watch 5 (some .int) "watch") (hQ : zQ X E K KX)
    (hK : ∀ (g' : zG) (fi' : Nat → Int32) (fa' : Nat → Nat → Int32), zMd g' m fi' ad fa' → zNm g g' → zkF (va_up (va_up (va_up fi 13 0) 15 0) 20 (nI (M + 1))) fi' → zkR (zw2 fa M n x1 x2) (zAn (va_up (va_up (va_up fi 13 0) 15 0) 20 (nI (M + 1))) (zw2 fa M n x1 x2) M n lg lg.length) (nI lg.length) M 0 lg.length fa' → K (some (.int (nI M))) g') : ∀ (c k : Nat) (g1 : zG), n = k + c → zMd g1 m fi ad (zwc fa (192 + 24 * M) k) → zNm g g1 →
    GW X E 5 g1 35 [(0, .ref m), (1, .int x1), (2, .int x2), (3, .int (nI k))] []
  | 0, k, g1, hc, hM, hN => by
    have : k = n := by omega
    subst this
    have hcl : (fi 20).toNatClampNeg = M := by rw [h20, nI_clamp (by omega)]
    refine bX3_watch_35 (d := d + 5) C hQ g1 m _ _ _ ⟨_, _, hM.1, rfl, fun _ => ⟨_, _, hM.1, rfl, _, _, hM.1, rfl, _, _, hM.1, rfl, _, _, hM.2 23 (by decide), (by rw [h20]; exact (zin 6 rfl (by omega) (by omega))), fun g2 e2 => ?_⟩, fun z => absurd (show fi 15 ≤ nI k by rw [h15]; exact nI_le (by omega) (by omega)) z⟩
    rw [hcl, h15] at e2
    have M2 := hM.sa (j := 23) (by decide) e2
    refine ⟨_, _, M2.1, rfl, _, _, M2.1, rfl, _, _, M2.2 21 (by decide), (by rw [h20]; exact zin 6 rfl (by omega) (by omega)), fun g3 e3 => ?_⟩
    rw [hcl, zbo_v hx1] at e3
    have M3 := M2.sa (j := 21) (by decide) e3
    refine ⟨_, _, M3.1, rfl, _, _, M3.1, rfl, _, _, M3.2 22 (by decide), (by rw [h20]; exact zin 6 rfl (by omega) (by omega)), fun g4 e4 => ?_⟩
    rw [hcl, zbo_v hx2] at e4
    have M4 := M3.sa (j := 22) (by decide) e4
    refine ⟨_, _, M4.1, rfl, _, _, M4.1, rfl, _, _, M4.2 24 (by decide), (by rw [h20]; exact (zin 6 rfl (by omega) (by omega))), fun g5 e5 => ?_⟩
    rw [hcl] at e5
    have M5 := M4.sa (j := 24) (by decide) e5
    refine ⟨_, M5.1, by simp [zMf], fun g6 e6 => ?_⟩
    have M6 := M5.si (j := 13) e6 (by decide)
    refine ⟨_, M6.1, by simp [zMf], fun g7 e7 => ?_⟩
    have M7 := M6.si (j := 15) e7 (by decide)
    refine ⟨_, _, M7.1, rfl, _, M7.1, by simp [zMf], fun g8 e8 => ?_⟩
    have M8 := M7.si (j := 20) e8 (by decide)
    have e20 : va_up (va_up fi 13 0) 15 0 20 = nI M := by
      rw [va_up_ne _ _ (by decide), va_up_ne _ _ (by decide)]
      exact h20
    rw [e20, ← nI_succ] at M8
    have N8 : zNm g g8 := (((((((hN.trans (zNm.sa (j := 23) (by decide) e2)).trans (zNm.sa (j := 21) (by decide) e3)).trans (zNm.sa (j := 22) (by decide) e4)).trans (zNm.sa (j := 24) (by decide) e5)).trans (zNm.si e6)).trans (zNm.si e7)).trans (zNm.si e8))
    have ef : (va_up (va_up (va_up (va_up (zwc fa (192 + 24 * M) k) 23 (upd (zwc fa (192 + 24 * M) k 23) M (nI k))) 21 (upd (va_up (zwc fa (192 + 24 * M) k) 23 (upd (zwc fa (192 + 24 * M) k 23) M (nI k)) 21) M x1)) 22 (upd (va_up (va_up (zwc fa (192 + 24 * M) k) 23 (upd (zwc fa (192 + 24 * M) k 23) M (nI k))) 21 (upd (va_up (zwc fa (192 + 24 * M) k) 23 (upd (zwc fa (192 + 24 * M) k 23) M (nI k)) 21) M x1) 22) M x2)) 24 (upd (va_up (va_up (va_up (zwc fa (192 + 24 * M) k) 23 (upd (zwc fa (192 + 24 * M) k 23) M (nI k))) 21 (upd (va_up (zwc fa (192 + 24 * M) k) 23 (upd (zwc fa (192 + 24 * M) k 23) M (nI k)) 21) M x1)) 22 (upd (va_up (va_up (zwc fa (192 + 24 * M) k) 23 (upd (zwc fa (192 + 24 * M) k 23) M (nI k))) 21 (upd (va_up (zwc fa (192 + 24 * M) k) 23 (upd (zwc fa (192 + 24 * M) k 23) M (nI k)) 21) M x1) 22) M x2) 24) M 0)) = zw2 fa M k x1 x2 := rfl
    have M8' : zMd g8 m (va_up (va_up (va_up fi 13 0) 15 0) 20 (nI (M + 1))) ad (zw2 fa M k x1 x2) := M8
    refine ⟨_, _, M8'.1, rfl, M8'.is, ?_⟩
    rw [va_up_self, nI_pred, show (0 : Int32) = nI 0 from nI_0.symm]
    have e3 : va_up (va_up (va_up fi 13 0) 15 0) 20 (nI (M + 1)) 3 = nI lg.length := by
      rw [va_up_ne _ _ (by decide), va_up_ne _ _ (by decide), va_up_ne _ _ (by decide)]
      exact hL.1
    have hL8 : zLg (va_up (va_up (va_up fi 13 0) 15 0) 20 (nI (M + 1))) (zw2 fa M k x1 x2) lg := ⟨e3, hL.2.1, hL.2.2.1, hL.2.2.2.1, fun j hj => by rw [zw2_i _ _ _ _ _ (by omega), zwc_o _ _ _ (by omega)]; exact hL.2.2.2.2 j hj⟩
    refine mp_keeps (d := d) (n := k) hok M8' hL8 hall hM6 hn hn0 (zwf_cpy hw) ?_ (by omega) (fun g9 fi9 fa9 b1 b2 b3 b4 => ⟨_, rfl, _, _, b1.1, rfl, ?_⟩)
    · show upd (fa 23) M (nI k) M = nI k
      rw [pk_us]
    · rw [b3 20 (by decide) (by decide) (by decide), va_up_self, nI_pred]
      rw [e3] at b4
      exact hK g9 fi9 fa9 b1 (N8.trans b2) b3 b4
  | c + 1, k, g1, hc, hM, hN => by
    refine bX3_watch_35 (d := d + 5) C hQ g1 m _ _ _ ⟨_, _, hM.1, rfl, fun z => absurd z (by rw [h15]; exact nI_ge (by omega) (by omega)), fun _ => ⟨_, _, hM.1, rfl, mX3_fromOf hok _ ⟨_, rfl, ?_⟩⟩⟩
    have hb : 192 + 24 * fi 20 + nI k = nI (192 + 24 * M + k) := by
      rw [h20]
      unfold nI
      rw [show (192 : Int32) = Int32.ofNat 192 from rfl, show (24 : Int32) = Int32.ofNat 24 from rfl, ← Int32.ofNat_mul, ← Int32.ofNat_add, ← Int32.ofNat_add]
    rw [hb]
    have hsrc : ∀ j : Nat, 16 ≤ j ∧ j ≤ 19 → zwc fa (192 + 24 * M) k j k = fa j k := fun j hj => by rw [zwc_i _ _ _ hj, zcpy_o _ _ _ _ (by omega)]
    have hk : (nI k).toNatClampNeg = k := nI_clamp (by omega)
    have hto : (nI (192 + 24 * M + k)).toNatClampNeg = 192 + 24 * M + k := nI_clamp (by omega)
    refine ⟨_, _, hM.1, rfl, _, _, hM.1, rfl, _, _, hM.2 16 (by decide), (zin 336 rfl (by omega) (by omega)), fun v hv => ⟨_, _, hM.2 16 (by decide), (zin 336 rfl (by omega) (by omega)), fun g2 e2 => ?_⟩⟩
    rw [hk, hsrc 16 (by omega)] at hv
    subst hv
    rw [hto, zwc_i _ _ _ (by omega), zcpy_s] at e2
    have M2 := hM.sa (j := 16) (by decide) e2
    refine ⟨_, _, M2.1, rfl, _, _, M2.1, rfl, _, _, M2.2 17 (by decide), (zin 336 rfl (by omega) (by omega)), fun v hv => ⟨_, _, M2.2 17 (by decide), (zin 336 rfl (by omega) (by omega)), fun g3 e3 => ?_⟩⟩
    rw [hk, va_up_ne _ _ (by decide), hsrc 17 (by omega)] at hv
    subst hv
    rw [hto, va_up_ne _ _ (by decide), zwc_i _ _ _ (by omega), zcpy_s] at e3
    have M3 := M2.sa (j := 17) (by decide) e3
    refine ⟨_, _, M3.1, rfl, _, _, M3.1, rfl, _, _, M3.2 18 (by decide), (zin 336 rfl (by omega) (by omega)), fun v hv => ⟨_, _, M3.2 18 (by decide), (zin 336 rfl (by omega) (by omega)), fun g4 e4 => ?_⟩⟩
    rw [hk, va_up_ne _ _ (by decide), va_up_ne _ _ (by decide), hsrc 18 (by omega)] at hv
    subst hv
    rw [hto, va_up_ne _ _ (by decide), va_up_ne _ _ (by decide), zwc_i _ _ _ (by omega), zcpy_s] at e4
    have M4 := M3.sa (j := 18) (by decide) e4
    refine ⟨_, _, M4.1, rfl, _, _, M4.1, rfl, _, _, M4.2 19 (by decide), (zin 336 rfl (by omega) (by omega)), fun v hv => ⟨_, _, M4.2 19 (by decide), (zin 336 rfl (by omega) (by omega)), fun g5 e5 => ?_⟩⟩
    rw [hk, va_up_ne _ _ (by decide), va_up_ne _ _ (by decide), va_up_ne _ _ (by decide), hsrc 19 (by omega)] at hv
    subst hv
    rw [hto, va_up_ne _ _ (by decide), va_up_ne _ _ (by decide), va_up_ne _ _ (by decide), zwc_i _ _ _ (by omega), zcpy_s] at e5
    have M5 := M4.sa (j := 19) (by decide) e5
    have ef : va_up (va_up (va_up (va_up (zwc fa (192 + 24 * M) k) 16 (va_cpy (fa 16) (fa 16) 0 (192 + 24 * M) (k + 1))) 17 (va_cpy (fa 17) (fa 17) 0 (192 + 24 * M) (k + 1))) 18 (va_cpy (fa 18) (fa 18) 0 (192 + 24 * M) (k + 1))) 19 (va_cpy (fa 19) (fa 19) 0 (192 + 24 * M) (k + 1)) = zwc fa (192 + 24 * M) (k + 1) := by
      funext j
      by_cases c : 16 ≤ j ∧ j ≤ 19
      · rw [zwc_i _ _ _ c]
        have : j = 16 ∨ j = 17 ∨ j = 18 ∨ j = 19 := by omega
        rcases this with rfl | rfl | rfl | rfl <;> simp [va_up]
      · rw [zwc_o _ _ _ (by omega), va_up_ne _ _ (by omega), va_up_ne _ _ (by omega), va_up_ne _ _ (by omega), va_up_ne _ _ (by omega), zwc_o _ _ _ (by omega)]
    rw [ef] at M5
    rw [← nI_succ]
    exact mp_watch_l hok hL hall hM6 h20 h15 hn hn0 hw hx1 hx2 C hQ hK c (k + 1) g5 (by omega) M5 ((((hN.trans (zNm.sa (j := 16) (by decide) e2)).trans (zNm.sa (j := 17) (by decide) e3)).trans (zNm.sa (j := 18) (by decide) e4)).trans (zNm.sa (j := 19) (by decide) e5))
theorem zwc_0 (fa : Nat → Nat → Int32) (b : Nat) : zwc fa b 0 = fa := by
  funext j
  by_cases c : 16 ≤ j ∧ j ≤ 19
  · rw [zwc_i _ _ _ c, zcpy_0]
  · rw [zwc_o _ _ _ (by omega)]
theorem mp_watch (hok : zOk X) (hM : zMd g m fi ad fa) (hL : zLg fi fa lg) (hall : ∀ k, k < lg.length → k ∈ lg) {M : Nat} (hM6 : M ≤ 6) (h20 : fi 20 = nI M) (hS : zSk fi fa P sz) {x1 x2 : Int32} (hx1 : zbo x1) (hx2 : zbo x2)
    (h1 : P = 1 → M < 6 → ∀ (g' : zG) (fi' : Nat → Int32) (fa' : Nat → Nat → Int32), zMd g' m fi' ad fa' → zNm g g' → zwt fi fa lg M (sz 0) x1 x2 fi' fa' → K (some (.int (nI M))) g')
    (h0 : ¬ (P = 1 ∧ M < 6) → ∀ g' : zG, zMd g' m (va_up fi 34 1) ad fa → zNm g g' → K (some (.int 0)) g') : zCal X (d + 6) yX3_watch wX3_watch [.ref m, .int x1, .int x2] g K KX := by
  obtain ⟨s1, s2, s3, s4, s5, s6⟩ := id hS
  have no : ¬ (P = 1 ∧ M < 6) → ∀ E : zM, zIs g 3 m ∧ zCal X (d + 5) yX3_goes wX3_goes [.ref m, .int 0, .int 1, .int 1] g (fun r g_3 => ∃ v_4 : Int32, r = some (.int v_4) ∧ zbo v_4 ∧ (¬ v_4 = 0 → GW X E 5 g_3 35 [(0, .ref m), (1, .int x1), (2, .int x2), (3, .int 0)] []) ∧ (v_4 = 0 → K (some (.int 0)) g_3)) KX := fun hn E => ⟨hM.is, mp_goes2 hok hM (fun w => absurd w (by decide)) (fun _ g2 a1 a2 => ⟨0, rfl, Or.inl rfl, fun w => absurd rfl w, fun _ => h0 hn g2 a1 a2⟩)⟩
  refine mX3_watch (d := d + 5) hok m _ _ (fun E C hQ => ⟨_, _, hM.1, rfl, fun z => no (fun q => z ?_) E, fun z => ⟨_, _, hM.1, rfl, fun z2 => no (fun q => ?_) E, fun z2 => ?_⟩⟩)
  · rw [s1, q.1]
    rfl
  · rw [h20] at z2
    have := (nI_leI (a := 6) (by omega) (by omega)).mp z2
    omega
  · have hP : P = 1 := by
      rw [s1] at z
      exact (nI_eq (b := 1) (by omega) (by omega)).mp z
    subst hP
    have hM6' : M < 6 := by
      rw [h20] at z2
      have := mt (nI_leI (a := 6) (b := M) (by omega) (by omega)).mpr z2
      omega
    have hs0 : zsum sz 1 = sz 0 := by
      unfold zsum zsum
      omega
    rw [hs0] at s4 s5
    obtain ⟨-, q2, q3⟩ := s3 0 (by omega)
    refine ⟨hM.is, mp_goes2 hok hM (fun _ g2 a1 a2 => ⟨1, rfl, Or.inr rfl, fun _ => ?_, fun w => absurd w (by decide)⟩) (fun w => absurd (by decide) w)⟩
    rw [show (0 : Int32) = nI 0 from nI_0.symm] at a1 ⊢
    have a1' : zMd g2 m (va_up fi 34 0) ad fa := a1
    refine mp_watch_l (d := d) (fi := va_up fi 34 0) (n := sz 0) hok (hL.f34 0) hall hM6' ((va_up_ne _ _ (by decide)).trans h20) ((va_up_ne _ _ (by decide)).trans s4) q3 q2 s5 hx1 hx2 C hQ (fun g' fi' fa' b1 b2 b3 b4 => h1 rfl hM6' g' fi' fa' b1 (a2.trans b2) ⟨b3, b4⟩) (sz 0) 0 g2 (Nat.zero_add _).symm ?_ (zNm.rf _)
    rw [zwc_0]
    exact a1'
end WTC
