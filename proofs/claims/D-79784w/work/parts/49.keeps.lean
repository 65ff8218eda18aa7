set_option maxRecDepth 100000
/-- how many answers are not open that were, of the first ones -/
def zks (fa : Nat → Nat → Int32) (ans : Nat → Int32) (i old : Nat) : Nat → Int32
  | 0 => 0
  | k + 1 => zks fa ans i old k + (if k < old ∧ fa 25 (80 * i + k) = 2 ∧ ¬ ans k = 2 then 1 else 0)
/-- how many were taken back, with those of the first ones -/
def ztk (fa : Nat → Nat → Int32) (ans : Nat → Int32) (i old : Nat) : Nat → Int32
  | 0 => fa 24 i
  | k + 1 => ztk fa ans i old k + (if k < old ∧ ¬ fa 25 (80 * i + k) = ans k ∧ ¬ fa 25 (80 * i + k) = 2 then 1 else 0)
/-- what is kept, with the first k answers of monitor i anew -/
def zkp (fa : Nat → Nat → Int32) (ans : Nat → Int32) (i k j : Nat) : Int32 := if 80 * i ≤ j ∧ j < 80 * i + k then ans (j - 80 * i) else fa 25 j
def zsc' (fa : Nat → Nat → Int32) (ans : Nat → Int32) (n : Int32) (i old k j : Nat) : Int32 := if 80 * i ≤ j ∧ j < 80 * i + k ∧ (old ≤ j - 80 * i ∨ ¬ fa 25 j = ans (j - 80 * i)) then n else fa 26 j
/-- the state of keeps, behind k answers -/
def zkI (fa : Nat → Nat → Int32) (ans : Nat → Int32) (n : Int32) (i old k : Nat) (fa' : Nat → Nat → Int32) : Prop := (∀ j, j ≠ 24 → j ≠ 25 → j ≠ 26 → fa' j = fa j) ∧ (∀ j, fa' 25 j = zkp fa ans i k j) ∧ (∀ j, fa' 26 j = zsc' fa ans n i old k j) ∧ ∀ j, fa' 24 j = if j = i then ztk fa ans i old k else fa 24 j
section KPS
variable {X : zX} {d : Nat} {g : zG} {K : Option Value → zG → Prop} {KX : String → zG → Prop} {m : Nat} {fi : Nat → Int32} {ad : Nat → Nat} {fa : Nat → Nat → Int32} {lg : List Nat}
theorem mp_keeps_l {E : zM} (C : zC X (d + 1) E RX3 cX3_keeps 7 (some .int) "keeps") (hQ : zQ X E K KX) {ans : Nat → Int32} {i n old : Nat} (hi : i < 6) (hn : n ≤ 80) (ho : old ≤ 80) (h3 : fi 3 = nI n) (h33 : ∀ k, k < n → fa 33 k = ans k) : ∀ (c k : Nat) (g : zG) (fa' : Nat → Nat → Int32), n = k + c → zMd g m fi ad fa' → zkI fa ans (fi 3) i old k fa' →
    (∀ (g' : zG) (fa'' : Nat → Nat → Int32), zMd g' m fi ad fa'' → zNm g g' → zkI fa ans (fi 3) i old n fa'' → K (some (.int (zks fa ans i old n))) g') → GW X E 7 g 22 [(0, .ref m), (1, .int (nI i)), (2, .int (nI old)), (3, .int (zks fa ans i old k)), (4, .int (nI k))] []
  | 0, k, g, fa', hc, hM, hI, hK => by
    have : n = k := by omega
    subst this
    exact bX3_keeps_22 (d := d) C hQ g m _ _ _ _ ⟨_, _, hM.1, rfl, fun _ => hK g fa' hM (zNm.rf g) hI, fun z => absurd (show fi 3 ≤ nI n by rw [h3]; exact nI_le (by omega) (by omega)) z⟩
  | c + 1, k, g, fa', hc, hM, hI, hK => by
    obtain ⟨i1, i2, i3, i4⟩ := hI
    have hq : (nI (80 * i + k)).toNatClampNeg = 80 * i + k := nI_clamp (by omega)
    have hk25 : fa' 25 (80 * i + k) = fa 25 (80 * i + k) := by
      rw [i2]
      unfold zkp
      rw [if_neg (by omega)]
    have hk33 : fa' 33 k = ans k := by rw [i1 33 (by decide) (by decide) (by decide)]; exact h33 k (by omega)
    have hok' : nI old ≤ nI k ↔ old ≤ k := nI_leI (by omega) (by omega)
    have f140 : ∀ (x6 inc : Int32), (x6 = 0 → ¬ (old ≤ k ∨ ¬ fa 25 (80 * i + k) = ans k)) → (¬ x6 = 0 → old ≤ k ∨ ¬ fa 25 (80 * i + k) = ans k) → ztk fa ans i old k + inc = ztk fa ans i old (k + 1) → GW X E 7 g 140 [(0, .ref m), (1, .int (nI i)), (2, .int (nI old)), (3, .int (zks fa ans i old (k + 1))), (4, .int (nI k)), (5, .int (nI (80 * i + k))), (6, .int x6)] [.int inc, .int (ztk fa ans i old k), .int (nI i), .ref (ad 24)] := by
      intro x6 inc y0 y1 yi
      refine bX3_keeps_140 (d := d) C hQ g m _ _ _ _ _ _ _ _ _ _ ⟨24, _, _, hM.2 24 (by decide), by decide, (zin 6 rfl (by omega) (by omega)), fun g1 e1 => ?_⟩
      rw [nI_clamp (by omega), yi] at e1
      have hM1 := hM.sa (j := 24) (by decide) e1
      refine ⟨_, _, hM1.1, rfl, fun z => ?_, fun z => ?_⟩
      · refine ⟨_, _, hM1.1, rfl, _, _, hM1.2 26 (by decide), (zin 480 rfl (by omega) (by omega)), fun v hv => ⟨_, _, hM1.2 26 (by decide), (zin 480 rfl (by omega) (by omega)), fun g2 e2 => ?_⟩⟩
        rw [hq] at hv e2
        subst hv
        have hM2 := hM1.sa (j := 26) (by decide) e2
        refine ⟨_, _, hM2.1, rfl, _, _, hM2.1, rfl, _, _, hM2.2 33 (by decide), (zin 80 rfl (by omega) (by omega)), fun v hv => ⟨_, _, hM2.2 25 (by decide), (zin 480 rfl (by omega) (by omega)), fun g3 e3 => ?_⟩⟩
        rw [nI_clamp (by omega)] at hv
        rw [hq] at e3
        have hv' : v = ans k := hv.trans hk33
        clear hv
        subst hv'
        have hM3 := hM2.sa (j := 25) (by decide) e3
        rw [← nI_succ]
        refine mp_keeps_l C hQ hi hn ho h3 h33 c (k + 1) g3 _ (by omega) hM3 ⟨fun j a b c => ?_, fun j => ?_, fun j => ?_, fun j => ?_⟩ (fun g' fa'' a1 a2 a3 => hK g' fa'' a1 (((zNm.sa (j := 24) (by decide) e1).trans ((zNm.sa (j := 26) (by decide) e2).trans (zNm.sa (j := 25) (by decide) e3))).trans a2) a3)
        · rw [va_up_ne _ _ b, va_up_ne _ _ c, va_up_ne _ _ a]
          exact i1 j a b c
        · rw [va_up_self]
          show upd (fa' 25) _ _ j = _
          unfold zkp
          by_cases cj : j = 80 * i + k
          · subst cj
            rw [pk_us, if_pos (by omega)]
            congr 1
            omega
          · rw [pk_un cj, i2]
            unfold zkp
            by_cases c2 : 80 * i ≤ j ∧ j < 80 * i + k
            · rw [if_pos c2, if_pos (by omega)]
            · rw [if_neg c2, if_neg (by omega)]
        · rw [va_up_ne _ _ (by decide), va_up_self]
          show upd (fa' 26) _ (fa' 26 _) j = _
          unfold zsc'
          by_cases cj : j = 80 * i + k
          · subst cj
            rw [pk_us, i3]
            unfold zsc'
            have e0 : 80 * i + k - 80 * i = k := by omega
            rw [if_neg (by omega), e0, if_neg (fun w => y0 z w.2.2)]
          · rw [pk_un cj, i3]
            unfold zsc'
            by_cases c2 : j < 80 * i + k
            · have c3 : j < 80 * i + (k + 1) := by omega
              simp only [c2, c3]
            · have c3 : ¬ j < 80 * i + (k + 1) := by omega
              simp only [c2, c3]
        · rw [va_up_ne _ _ (by decide), va_up_ne _ _ (by decide), va_up_self]
          by_cases cj : j = i
          · subst cj
            rw [pk_us, if_pos rfl]
          · rw [pk_un cj, if_neg cj, i4, if_neg cj]
      · refine ⟨_, _, hM1.1, rfl, _, _, hM1.2 26 (by decide), (zin 480 rfl (by omega) (by omega)), fun g2 e2 => ?_⟩
        rw [hq] at e2
        have hM2 := hM1.sa (j := 26) (by decide) e2
        refine ⟨_, _, hM2.1, rfl, _, _, hM2.1, rfl, _, _, hM2.2 33 (by decide), (zin 80 rfl (by omega) (by omega)), fun v hv => ⟨_, _, hM2.2 25 (by decide), (zin 480 rfl (by omega) (by omega)), fun g3 e3 => ?_⟩⟩
        rw [nI_clamp (by omega)] at hv
        rw [hq] at e3
        have hv' : v = ans k := hv.trans hk33
        clear hv
        subst hv'
        have hM3 := hM2.sa (j := 25) (by decide) e3
        rw [← nI_succ]
        refine mp_keeps_l C hQ hi hn ho h3 h33 c (k + 1) g3 _ (by omega) hM3 ⟨fun j a b c => ?_, fun j => ?_, fun j => ?_, fun j => ?_⟩ (fun g' fa'' a1 a2 a3 => hK g' fa'' a1 (((zNm.sa (j := 24) (by decide) e1).trans ((zNm.sa (j := 26) (by decide) e2).trans (zNm.sa (j := 25) (by decide) e3))).trans a2) a3)
        · rw [va_up_ne _ _ b, va_up_ne _ _ c, va_up_ne _ _ a]
          exact i1 j a b c
        · rw [va_up_self]
          show upd (fa' 25) _ _ j = _
          unfold zkp
          by_cases cj : j = 80 * i + k
          · subst cj
            rw [pk_us, if_pos (by omega)]
            congr 1
            omega
          · rw [pk_un cj, i2]
            unfold zkp
            by_cases c2 : 80 * i ≤ j ∧ j < 80 * i + k
            · rw [if_pos c2, if_pos (by omega)]
            · rw [if_neg c2, if_neg (by omega)]
        · rw [va_up_ne _ _ (by decide), va_up_self]
          show upd (fa' 26) _ _ j = _
          unfold zsc'
          by_cases cj : j = 80 * i + k
          · subst cj
            have e0 : 80 * i + k - 80 * i = k := by omega
            rw [pk_us, e0, if_pos ⟨by omega, by omega, y1 z⟩]
          · rw [pk_un cj, i3]
            unfold zsc'
            by_cases c2 : j < 80 * i + k
            · have c3 : j < 80 * i + (k + 1) := by omega
              simp only [c2, c3]
            · have c3 : ¬ j < 80 * i + (k + 1) := by omega
              simp only [c2, c3]
        · rw [va_up_ne _ _ (by decide), va_up_ne _ _ (by decide), va_up_self]
          by_cases cj : j = i
          · subst cj
            rw [pk_us, if_pos rfl]
          · rw [pk_un cj, if_neg cj, i4, if_neg cj]
    have f104 : ∀ (x6 inc : Int32), (x6 = 0 → ¬ (old ≤ k ∨ ¬ fa 25 (80 * i + k) = ans k)) → (¬ x6 = 0 → old ≤ k ∨ ¬ fa 25 (80 * i + k) = ans k) → zks fa ans i old k + inc = zks fa ans i old (k + 1) → GW X E 7 g 104 [(0, .ref m), (1, .int (nI i)), (2, .int (nI old)), (4, .int (nI k)), (5, .int (nI (80 * i + k))), (6, .int x6)] [.int inc, .int (zks fa ans i old k)] := by
      intro x6 inc y0 y1 yi
      refine bX3_keeps_104 (d := d) C hQ g m _ _ _ _ _ _ _ ⟨_, _, hM.1, rfl, _, _, hM.2 24 (by decide), (zin 6 rfl (by omega) (by omega)), fun v hv => ?_⟩
      rw [nI_clamp (by omega), i4, if_pos rfl] at hv
      subst hv
      rw [yi]
      refine ⟨fun z => bX3_keeps_139 (d := d) C hQ g m _ _ _ _ _ _ _ _ _ (f140 x6 0 y0 y1 ?_), fun z => ⟨fun z2 => bX3_keeps_139 (d := d) C hQ g m _ _ _ _ _ _ _ _ _ (f140 x6 0 y0 y1 ?_), fun z2 => ⟨_, _, hM.1, rfl, _, _, hM.2 25 (by decide), (zin 480 rfl (by omega) (by omega)), fun v hv => ?_⟩⟩⟩
      · have := hok'.mp z
        show _ = ztk fa ans i old k + _
        rw [if_neg (by omega)]
      · have := y0 z2
        show _ = ztk fa ans i old k + _
        rw [if_neg (fun w => this (Or.inr w.2.1))]
      · rw [hq, hk25] at hv
        subst hv
        refine ⟨fun z3 => bX3_keeps_139 (d := d) C hQ g m _ _ _ _ _ _ _ _ _ (f140 x6 0 y0 y1 ?_), fun z3 => f140 x6 1 y0 y1 ?_⟩
        · show _ = ztk fa ans i old k + _
          rw [if_neg (fun w => w.2.2 z3)]
        · have h1 : ¬ old ≤ k := fun w => z (hok'.mpr w)
          have h2 : ¬ fa 25 (80 * i + k) = ans k := (y1 z2).resolve_left h1
          show _ = ztk fa ans i old k + _
          rw [if_pos ⟨by omega, h2, z3⟩]
    have f68 : ∀ (x6 : Int32), (x6 = 0 → ¬ (old ≤ k ∨ ¬ fa 25 (80 * i + k) = ans k)) → (¬ x6 = 0 → old ≤ k ∨ ¬ fa 25 (80 * i + k) = ans k) → GW X E 7 g 68 [(0, .ref m), (1, .int (nI i)), (2, .int (nI old)), (3, .int (zks fa ans i old k)), (4, .int (nI k)), (5, .int (nI (80 * i + k)))] [.int x6] := by
      intro x6 y0 y1
      refine bX3_keeps_68 (d := d) C hQ g m _ _ _ _ _ _ ⟨fun z => bX3_keeps_103 (d := d) C hQ g m _ _ _ _ _ _ (f104 x6 0 y0 y1 ?_), fun z => ⟨_, _, hM.1, rfl, _, _, hM.2 25 (by decide), (zin 480 rfl (by omega) (by omega)), fun v hv => ?_⟩⟩
      · have := hok'.mp z
        show _ = zks fa ans i old k + _
        rw [if_neg (by omega)]
      · rw [hq, hk25] at hv
        subst hv
        refine ⟨fun z2 => bX3_keeps_103 (d := d) C hQ g m _ _ _ _ _ _ (f104 x6 0 y0 y1 ?_), fun z2 => ⟨_, _, hM.1, rfl, _, _, hM.2 33 (by decide), (zin 80 rfl (by omega) (by omega)), fun v hv => ?_⟩⟩
        · show _ = zks fa ans i old k + _
          rw [if_neg (fun w => z2 w.2.1)]
        · rw [nI_clamp (by omega), hk33] at hv
          subst hv
          refine ⟨fun z3 => bX3_keeps_103 (d := d) C hQ g m _ _ _ _ _ _ (f104 x6 0 y0 y1 ?_), fun z3 => f104 x6 1 y0 y1 ?_⟩
          · show _ = zks fa ans i old k + _
            rw [if_neg (fun w => w.2.2 z3)]
          · have h1 : ¬ old ≤ k := fun w => z (hok'.mpr w)
            show _ = zks fa ans i old k + _
            rw [if_pos ⟨by omega, z2, z3⟩]
    refine bX3_keeps_22 (d := d) C hQ g m _ _ _ _ ⟨_, _, hM.1, rfl, fun z => absurd z (by rw [h3]; exact nI_ge (by omega) (by omega)), fun _ => ?_⟩
    rw [z80]
    refine ⟨fun z => bX3_keeps_63 (d := d) C hQ g m _ _ _ _ _ (f68 1 (fun w => absurd w (by decide)) (fun _ => Or.inl (hok'.mp z))), fun z => ⟨_, _, hM.1, rfl, _, _, hM.2 25 (by decide), (zin 480 rfl (by omega) (by omega)), fun v hv => ⟨_, _, hM.1, rfl, _, _, hM.2 33 (by decide), (zin 80 rfl (by omega) (by omega)), fun v2 hv2 => ?_⟩⟩⟩
    rw [hq, hk25] at hv
    rw [nI_clamp (by omega), hk33] at hv2
    subst hv hv2
    refine ⟨fun z2 => f68 0 (fun _ w => w.elim (fun w => z (hok'.mpr w)) (fun w => w z2)) (fun w => absurd rfl w), fun z2 => bX3_keeps_63 (d := d) C hQ g m _ _ _ _ _ (f68 1 (fun w => absurd w (by decide)) (fun _ => Or.inr z2))⟩
end KPS
