set_option maxRecDepth 100000
/-- whether an event of time wh at node its stands ahead of v -/
def zah (fa : Nat → Nat → Int32) (its wh : Int32) (v : Nat) : Bool := decide (wh < fa 7 v) || (fa 7 v == wh && decide (its < fa 6 v))
/-- the place behind all but those that b says, of the first k -/
def zpl (b : Nat → Bool) : Nat → Nat
  | 0 => 0
  | k + 1 => if b k = true then zpl b k else k + 1
theorem zpl_t {b : Nat → Bool} {k : Nat} (h : b k = true) : zpl b (k + 1) = zpl b k := if_pos h
theorem zpl_f {b : Nat → Bool} {k : Nat} (h : b k = false) : zpl b (k + 1) = k + 1 := if_neg (by rw [h]; decide)
theorem zpl_le (b : Nat → Bool) : ∀ k : Nat, zpl b k ≤ k
  | 0 => Nat.le_refl _
  | k + 1 => by
    have := zpl_le b k
    unfold zpl
    split <;> omega
/-- where a new event goes in the log -/
def zpc (fa : Nat → Nat → Int32) (lg : List Nat) (its wh : Int32) : Nat := zpl (fun k => zah fa its wh (zr lg k)) lg.length
theorem zpc_le (fa : Nat → Nat → Int32) (lg : List Nat) (its wh : Int32) : zpc fa lg its wh ≤ lg.length := zpl_le _ _
def zlg (fa : Nat → Nat → Int32) (lg : List Nat) (its wh : Int32) : List Nat := lg.insertIdx (zpc fa lg its wh) lg.length
/-- what the coming of an event leaves: the numbers, and the arrays but the log -/
def zc1 (fi : Nat → Int32) (n : Nat) (wh : Int32) : Nat → Int32 := va_up (va_up fi 5 (if fi 5 < wh then wh else fi 5)) 3 (nI (n + 1))
def zc2 (fa : Nat → Nat → Int32) (n : Nat) (its wh kd id vl lt : Int32) : Nat → Nat → Int32 := va_up (va_up (va_up (va_up (va_up (va_up fa 6 (upd (fa 6) n its)) 7 (upd (fa 7) n wh)) 8 (upd (fa 8) n kd)) 9 (upd (fa 9) n id)) 10 (upd (fa 10) n vl)) 11 (upd (fa 11) n lt)
theorem zc2_o (fa : Nat → Nat → Int32) (n : Nat) (its wh kd id vl lt : Int32) {j : Nat} (h : j < 6 ∨ 11 < j) : zc2 fa n its wh kd id vl lt j = fa j := by
  unfold zc2
  rw [va_up_ne _ _ (by omega), va_up_ne _ _ (by omega), va_up_ne _ _ (by omega), va_up_ne _ _ (by omega), va_up_ne _ _ (by omega), va_up_ne _ _ (by omega)]
def zcm (fi : Nat → Int32) (fa : Nat → Nat → Int32) (lg : List Nat) (its wh kd id vl : Int32) (fi' : Nat → Int32) (fa' : Nat → Nat → Int32) : Prop :=
  fi' = zc1 fi lg.length wh ∧ (∀ j : Nat, j ≠ 12 → fa' j = zc2 fa lg.length its wh kd id vl (if wh < fi 5 then 1 else 0) j) ∧ ∀ k : Nat, k < lg.length + 1 → fa' 12 k = nI (zr (zlg fa lg its wh) k)
theorem zr_ins {l : List Nat} {p x : Nat} (hp : p ≤ l.length) (k : Nat) : zr (l.insertIdx p x) k = if k < p then zr l k else if k = p then x else zr l (k - 1) := by
  unfold zr
  rw [List.getD_eq_getElem?_getD, List.getD_eq_getElem?_getD, List.getD_eq_getElem?_getD]
  by_cases c : k < p
  · rw [if_pos c, List.getElem?_insertIdx_of_lt c]
  · rw [if_neg c]
    by_cases c2 : k = p
    · subst c2
      rw [if_pos rfl, List.getElem?_insertIdx_self, if_pos hp]
      rfl
    · rw [if_neg c2, List.getElem?_insertIdx_of_gt (by omega)]
section CMS
variable {X : zX} {d : Nat} {g : zG} {K : Option Value → zG → Prop} {KX : String → zG → Prop} {m : Nat} {fi : Nat → Int32} {ad : Nat → Nat} {fa : Nat → Nat → Int32} {lg : List Nat}
theorem mp_comes_l (hl : lg.length ≤ 79) (hv : ∀ v ∈ lg, v < lg.length) {x1 x6 : Int32} {E : zM} (C : zC X d E RX3 cX3_comes 8 none "comes") (hQ : zQ X E K KX) : ∀ (k : Nat) (g : zG) (fa' : Nat → Nat → Int32), k ≤ lg.length → zMd g m fi ad fa' → (∀ v, v < lg.length → fa' 7 v = fa 7 v ∧ fa' 6 v = fa 6 v) → (∀ j, j < k → fa' 12 j = nI (zr lg j)) → (∀ j, k ≤ j → j < lg.length → fa' 12 (j + 1) = nI (zr lg j)) →
    (∀ (p : Nat) (g' : zG) (fa'' : Nat → Nat → Int32), p ≤ lg.length → p = zpl (fun k => zah fa x1 x6 (zr lg k)) k → zMd g' m fi ad fa'' → zNm g g' → (∀ j, j ≠ 12 → fa'' j = fa' j) → (∀ j, j < p → fa'' 12 j = nI (zr lg j)) → (∀ j, p ≤ j → j < lg.length → fa'' 12 (j + 1) = nI (zr lg j)) → GW X E 8 g' 175 [(0, .ref m), (6, .int x6), (7, .int (nI p))] []) →
    GW X E 8 g 92 [(0, .ref m), (1, .int x1), (6, .int x6), (7, .int (nI k))] []
  | 0, g, fa', hk, hM, hT, h1, h2, hK => bX3_comes_92 C hQ g m _ _ _ ⟨fun _ => hK 0 g fa' (Nat.zero_le _) rfl hM (zNm.rf g) (fun _ _ => rfl) h1 h2, fun z => absurd (show nI 0 ≤ 0 by decide) z⟩
  | k + 1, g, fa', hk, hM, hT, h1, h2, hK => by
    have hz := hv _ (zr_mem (R := lg) (k := k) (by omega))
    have e12 : fa' 12 k = nI (zr lg k) := h1 k (by omega)
    obtain ⟨e7, e6⟩ := hT _ hz
    have stop : zah fa x1 x6 (zr lg k) = false → GW X E 8 g 175 [(0, .ref m), (6, .int x6), (7, .int (nI (k + 1)))] [] := fun hf => hK (k + 1) g fa' hk (zpl_f (b := fun k => zah fa x1 x6 (zr lg k)) hf).symm hM (zNm.rf g) (fun _ _ => rfl) h1 h2
    have go : zah fa x1 x6 (zr lg k) = true → ∀ g2, g2 = zSi g 12 (ad 12) 80 (upd (fa' 12) (k + 1) (nI (zr lg k))) → GW X E 8 g2 92 [(0, .ref m), (1, .int x1), (6, .int x6), (7, .int (nI k))] [] := fun hf g2 e2 => by
      have hM2 := hM.sa (j := 12) (by decide) e2
      refine mp_comes_l hl hv C hQ k g2 _ (by omega) hM2 (fun v hv' => ?_) (fun j hj => ?_) (fun j c1 c2 => ?_) (fun p g' fa'' p1 p2 p3 p4 p5 p6 p7 => hK p g' fa'' p1 (p2.trans (zpl_t (b := fun k => zah fa x1 x6 (zr lg k)) hf).symm) p3 ((zNm.sa (j := 12) (by decide) e2).trans p4) (fun j hj => (p5 j hj).trans (va_up_ne _ _ hj)) p6 p7)
      · rw [va_up_ne _ _ (by decide), va_up_ne _ _ (by decide)]
        exact hT v hv'
      · rw [va_up_self, pk_un (by omega)]
        exact h1 j (by omega)
      · rw [va_up_self]
        by_cases cj : j = k
        · subst cj
          rw [pk_us]
        · rw [pk_un (by omega)]
          exact h2 j (by omega) c2
    refine bX3_comes_92 C hQ g m _ _ _ ⟨fun z => absurd z (nI_nle (by omega) (by omega)), fun _ => ?_⟩
    rw [nI_pred, pk_m1]
    refine ⟨_, _, hM.1, rfl, _, _, hM.1, rfl, _, _, hM.2 12 (by decide), (zin 80 rfl (by omega) (by omega)), fun v hv => ?_⟩
    rw [nI_clamp (by omega), e12] at hv
    subst hv
    refine ⟨_, _, hM.2 7 (by decide), (zin 80 rfl (by omega) (by omega)), fun v hv => ?_⟩
    rw [nI_clamp (by omega), e7] at hv
    subst hv
    refine ⟨fun c => ⟨_, _, hM.1, rfl, _, _, hM.1, rfl, _, _, hM.2 12 (by decide), (zin 80 rfl (by omega) (by omega)), fun v hv => ⟨_, _, hM.2 12 (by decide), (zin 80 rfl (by omega) (by omega)), fun g2 e2 => ?_⟩⟩, fun c => ⟨_, _, hM.1, rfl, _, _, hM.1, rfl, _, _, hM.2 12 (by decide), (zin 80 rfl (by omega) (by omega)), fun v hv => ?_⟩⟩
    · rw [nI_clamp (by omega), e12] at hv
      subst hv
      rw [nI_clamp (by omega)] at e2
      exact go (by unfold zah; simp [c]) g2 e2
    · rw [nI_clamp (by omega), e12] at hv
      subst hv
      refine ⟨_, _, hM.2 7 (by decide), (zin 80 rfl (by omega) (by omega)), fun v hv => ?_⟩
      rw [nI_clamp (by omega), e7] at hv
      subst hv
      refine ⟨fun c2 => stop (by unfold zah; simp [c, c2]), fun c2 => ⟨_, _, hM.1, rfl, _, _, hM.1, rfl, _, _, hM.2 12 (by decide), (zin 80 rfl (by omega) (by omega)), fun v hv => ?_⟩⟩
      rw [nI_clamp (by omega), e12] at hv
      subst hv
      refine ⟨_, _, hM.2 6 (by decide), (zin 80 rfl (by omega) (by omega)), fun v hv => ?_⟩
      rw [nI_clamp (by omega), e6] at hv
      subst hv
      refine ⟨fun c3 => stop ?_, fun c3 => ⟨_, _, hM.1, rfl, _, _, hM.1, rfl, _, _, hM.2 12 (by decide), (zin 80 rfl (by omega) (by omega)), fun v hv => ⟨_, _, hM.2 12 (by decide), (zin 80 rfl (by omega) (by omega)), fun g2 e2 => ?_⟩⟩⟩
      · unfold zah
        rw [decide_eq_false c, decide_eq_false (Int32.not_lt.mpr c3)]
        simp
      · rw [nI_clamp (by omega), e12] at hv
        subst hv
        rw [nI_clamp (by omega)] at e2
        refine go ?_ g2 e2
        unfold zah
        rw [decide_eq_true (Int32.not_le.mp c3)]
        simp [c2]
theorem mp_comes (hok : zOk X) (hM : zMd g m fi ad fa) (hL : zLg fi fa lg) (hn : lg.length ≤ 79) {a : Nat} (ha : a < 4) {x2 x3 x4 x5 : Int32}
    (hK : ∀ (g' : zG) (fi' : Nat → Int32) (fa' : Nat → Nat → Int32), zMd g' m fi' ad fa' → zNm g g' → zcm fi fa lg (nI a) (x2 + fa 0 a) x3 x4 x5 fi' fa' → K none g') : zCal X d yX3_comes wX3_comes [.ref m, .int (nI a), .int x2, .int x3, .int x4, .int x5] g K KX := by
  obtain ⟨l1, l2, l3, l4, l5⟩ := hL
  refine mX3_comes hok m _ _ _ _ _ (fun E C hQ => ⟨_, _, hM.1, rfl, _, _, hM.2 0 (by decide), (zin 4 rfl (by omega) (by omega)), fun v hv => ?_⟩)
  rw [nI_clamp (by omega)] at hv
  subst hv
  generalize hwh : x2 + fa 0 a = wh at hK ⊢
  have hcl : (fi 3).toNatClampNeg = lg.length := by rw [l1, nI_clamp (by omega)]
  refine ⟨_, _, hM.1, rfl, _, _, hM.1, rfl, _, _, hM.2 6 (by decide), (by rw [l1]; exact (zin 80 rfl (by omega) (by omega))), fun g1 e1 => ?_⟩
  rw [hcl] at e1
  have M1 := hM.sa (j := 6) (by decide) e1
  refine ⟨_, _, M1.1, rfl, _, _, M1.1, rfl, _, _, M1.2 7 (by decide), (by rw [l1]; exact (zin 80 rfl (by omega) (by omega))), fun g2 e2 => ?_⟩
  rw [hcl] at e2
  have M2 := M1.sa (j := 7) (by decide) e2
  refine ⟨_, _, M2.1, rfl, _, _, M2.1, rfl, _, _, M2.2 8 (by decide), (by rw [l1]; exact (zin 80 rfl (by omega) (by omega))), fun g3 e3 => ?_⟩
  rw [hcl] at e3
  have M3 := M2.sa (j := 8) (by decide) e3
  refine ⟨_, _, M3.1, rfl, _, _, M3.1, rfl, _, _, M3.2 9 (by decide), (by rw [l1]; exact (zin 80 rfl (by omega) (by omega))), fun g4 e4 => ?_⟩
  rw [hcl] at e4
  have M4 := M3.sa (j := 9) (by decide) e4
  refine ⟨_, _, M4.1, rfl, _, _, M4.1, rfl, _, _, M4.2 10 (by decide), (by rw [l1]; exact (zin 80 rfl (by omega) (by omega))), fun g5 e5 => ?_⟩
  rw [hcl] at e5
  have M5 := M4.sa (j := 10) (by decide) e5
  have N5 : zNm g g5 := ((((zNm.sa (j := 6) (by decide) e1).trans (zNm.sa (j := 7) (by decide) e2)).trans (zNm.sa (j := 8) (by decide) e3)).trans (zNm.sa (j := 9) (by decide) e4)).trans (zNm.sa (j := 10) (by decide) e5)
  have fin : ∀ (b : Int32) (g6 : zG), b = (if wh < fi 5 then 1 else 0) → g6 = zSi g5 111 (ad 11) 80 (upd (fa 11) lg.length b) → GW X E 8 g6 92 [(0, .ref m), (1, .int (nI a)), (6, .int wh), (7, .int (nI lg.length))] [] := by
    intro b g6 hb e6
    have M6 := M5.sa (j := 11) (by decide) e6
    have N6 := N5.trans (zNm.sa (j := 11) (by decide) e6)
    refine mp_comes_l (fa := fa) (lg := lg) hn l4 C hQ lg.length g6 _ (Nat.le_refl _) M6 (fun v hv => ?_) (fun j hj => ?_) (fun j c1 c2 => absurd c1 (by omega)) (fun p g7 fa7 p1 p2 M7 p4 p5 p6 p7 => ?_)
    · simp only [va_up]
      constructor
      · simp [upd, show v ≠ lg.length by omega]
      · simp [upd, show v ≠ lg.length by omega]
    · simp only [va_up]
      simp
      exact l5 j hj
    · have fin2 : ∀ (pr : Int32) (g8 : zG) (fa8 : Nat → Nat → Int32), pr = (if fi 5 < wh then wh else fi 5) → zMd g8 m (va_up (va_up fi 5 pr) 3 (nI (lg.length + 1))) ad fa8 → zNm g g8 → fa8 = va_up fa7 12 (upd (fa7 12) p (nI lg.length)) → K none g8 := by
        intro pr g8 fa8 hpr M8 N8 e8
        subst e8 hpr
        refine hK g8 _ _ M8 N8 ⟨rfl, fun j hj => ?_, fun k hk => ?_⟩
        · rw [va_up_ne _ _ hj, p5 j hj, ← hb]
          rfl
        · rw [va_up_self]
          unfold zlg zpc
          rw [← p2, zr_ins p1]
          by_cases c : k < p
          · rw [if_pos c, pk_un (by omega)]
            exact p6 k c
          · rw [if_neg c]
            by_cases c2 : k = p
            · subst c2
              rw [if_pos rfl, pk_us]
            · rw [if_neg c2, pk_un c2]
              obtain ⟨k', rfl⟩ : ∃ k', k = k' + 1 := ⟨k - 1, by omega⟩
              rw [Nat.add_sub_cancel]
              exact p7 k' (by omega) (by omega)
      refine bX3_comes_175 C hQ g7 m _ _ ⟨_, _, M7.1, rfl, _, _, M7.1, rfl, _, _, M7.2 12 (by decide), (zin 80 rfl (by omega) (by omega)), fun g8 e8 => ?_⟩
      rw [nI_clamp (by omega), l1] at e8
      have M8 := M7.sa (j := 12) (by decide) e8
      have N8 := (N6.trans p4).trans (zNm.sa (j := 12) (by decide) e8)
      refine ⟨_, _, M8.1, rfl, fun c => ⟨_, _, M8.1, rfl, _, M8.1, by simp [zMf], fun g9 e9 => ?_⟩, fun c => ⟨_, M8.1, by simp [zMf], fun g9 e9 => ?_⟩⟩
      · have M9 := M8.si (j := 5) e9 (by decide)
        refine ⟨_, _, M9.1, rfl, _, M9.1, by simp [zMf], fun g10 e10 => ?_⟩
        have M10 := M9.si (j := 3) e10 (by decide)
        rw [va_up_ne _ _ (by decide), l1, ← nI_succ] at M10
        exact fin2 _ g10 _ (by rw [if_neg (Int32.not_lt.mpr c)]) M10 ((N8.trans (zNm.si e9)).trans (zNm.si e10)) rfl
      · have M9 := M8.si (j := 5) e9 (by decide)
        refine ⟨_, _, M9.1, rfl, _, M9.1, by simp [zMf], fun g10 e10 => ?_⟩
        have M10 := M9.si (j := 3) e10 (by decide)
        rw [va_up_ne _ _ (by decide), l1, ← nI_succ] at M10
        exact fin2 _ g10 _ (by rw [if_pos (Int32.not_le.mp c)]) M10 ((N8.trans (zNm.si e9)).trans (zNm.si e10)) rfl
  refine ⟨_, _, M5.1, rfl, _, _, M5.1, rfl, _, _, M5.1, rfl, fun c => ⟨_, _, M5.2 11 (by decide), by rw [l1]; exact zin 80 rfl (by omega) (by omega), fun g6 e6 => ?_⟩, fun c => ⟨_, _, M5.2 11 (by decide), by rw [l1]; exact zin 80 rfl (by omega) (by omega), fun g6 e6 => ?_⟩⟩
  · rw [hcl] at e6
    have M6 := M5.sa (j := 11) (by decide) e6
    refine ⟨_, _, M6.1, rfl, ?_⟩
    rw [l1]
    exact fin 0 g6 (by rw [if_neg (Int32.not_lt.mpr c)]) e6
  · rw [hcl] at e6
    have M6 := M5.sa (j := 11) (by decide) e6
    refine ⟨_, _, M6.1, rfl, ?_⟩
    rw [l1]
    exact fin 1 g6 (by rw [if_pos (Int32.not_le.mp c)]) e6
end CMS
