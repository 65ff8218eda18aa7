set_option maxRecDepth 100000
/-- the class object's fields -/
def zxs (ad : Nat → Nat) (fi : Nat → Int32) : List Value := [.ref (ad 0), .int (fi 1), .ref (ad 2), .ref (ad 3), .ref (ad 4), .int (fi 5), .int (if fi 2 = 0 then 1 else 0), .int (fi 4), .ref (ad 8), .ref (ad 9), .ref (ad 10), .ref (ad 11)]
/-- a monitor's own things: mo 0 itself, mo 1 its parts, mo 2 its row, mo 3 the row's list, mo 4 its table, mo 5 what is known, mo (6+p) the cells of part p -/
def zMs (X : zX) (i x : Nat) (ad mo fo : Nat → Nat) (np : Nat) (t : Int32) (fi : Nat → Int32) (fa : Nat → Nat → Int32) (g : zG) : Prop :=
  zGo g 8 (mo 0) = some [.ref (fo (np - 1)), .ref (mo 1), .ref (mo 2), .int (fa 21 i), .int (fa 22 i), .ref (mo 5), .int t, .ref x] ∧ zGo g 1 x = some (zxs ad fi) ∧ (∃ q : Nat, zLs X g (80 + 3 * i) (mo 1) ((List.range np).map fo) q) ∧ (∀ p : Nat, p < np → zGo g 7 (fo p) = some (zff X fa (192 + 24 * i) fo p (nI p))) ∧ zRt X i x (mo 2) (mo 3) (mo 1) (mo 4) np (fun p => mo (6 + p)) g
theorem zMs.fe' {X : zX} {i x : Nat} {ad mo fo : Nat → Nat} {np : Nat} {t : Int32} {fi : Nat → Int32} {fa : Nat → Nat → Int32} {P : Nat → Prop} {g g' : zG} (h : zMs X i x ad mo fo np t fi fa g) (e : zFe P g g') (h1 : ¬ P 1) (h7 : ¬ P 7) (h8 : ¬ P 8) (h80 : ¬ P (80 + 3 * i)) (hT : zRt X i x (mo 2) (mo 3) (mo 1) (mo 4) np (fun p => mo (6 + p)) g') : zMs X i x ad mo fo np t fi fa g' := by
  obtain ⟨a1, a2, ⟨q, a3⟩, a4, a5⟩ := h
  exact ⟨e.1 8 h8 _ _ a1, e.1 1 h1 _ _ a2, ⟨q, a3.fe e h80⟩, fun p hp => e.1 7 h7 _ _ (a4 p hp), hT⟩
theorem zMs.fe {X : zX} {i x : Nat} {ad mo fo : Nat → Nat} {np : Nat} {t : Int32} {fi : Nat → Int32} {fa : Nat → Nat → Int32} {P : Nat → Prop} {g g' : zG} (h : zMs X i x ad mo fo np t fi fa g) (hi : i < 6) (e : zFe P g g') (h1 : ¬ P 1) (h7 : ¬ P 7) (h8 : ¬ P 8) (h9 : ¬ P 9) (h80 : ¬ P (80 + 3 * i)) (h52 : ¬ P (1052 + i)) : zMs X i x ad mo fo np t fi fa g' := h.fe' e h1 h7 h8 h80 (h.2.2.2.2.fe hi e h9 h52)
/-- a line of events that may be looked at -/
def zLi (fi : Nat → Int32) (fa : Nat → Nat → Int32) (Ls : List Nat) : Prop := Ls.length ≤ 80 ∧ Ls.Nodup ∧ zri fa Ls ∧ zti fa Ls ∧ (∃ t : Nat, t ≤ 11000 ∧ fi 5 = nI t ∧ ∀ v ∈ Ls, fa 7 v ≤ fi 5) ∧ (∀ v ∈ Ls, -1000 ≤ (fa 10 v).toInt ∧ (fa 10 v).toInt ≤ 1000) ∧ ∀ v ∈ Ls, v < 80
theorem zri_pw {fa : Nat → Nat → Int32} {R : List Nat} : zri fa R ↔ R.Pairwise (fun u v => fa 7 u ≤ fa 7 v) := by
  unfold zri zr
  rw [List.pairwise_iff_getElem]
  refine ⟨fun h j k hj hk hjk => ?_, fun h j k hjk hk => ?_⟩
  · have := h j k (by omega) hk
    rw [List.getD_eq_getElem?_getD, List.getD_eq_getElem?_getD, List.getElem?_eq_getElem hj, List.getElem?_eq_getElem hk] at this
    exact this
  · rw [List.getD_eq_getElem?_getD, List.getD_eq_getElem?_getD, List.getElem?_eq_getElem hk, List.getElem?_eq_getElem (show j < R.length by omega)]
    by_cases c : j = k
    · subst c
      exact Int32.le_refl _
    · exact h j k (by omega) hk (by omega)
theorem zLi.sub {fi : Nat → Int32} {fa : Nat → Nat → Int32} {Ls R : List Nat} (h : zLi fi fa Ls) (hs : R.Sublist Ls) : zLi fi fa R := by
  obtain ⟨h1, h2, h3, h4, ⟨t, h5, h6, h7⟩, h8, h9⟩ := h
  exact ⟨Nat.le_trans hs.length_le h1, h2.sublist hs, zri_pw.mpr ((zri_pw.mp h3).sublist hs), fun v hv => h4 v (hs.subset hv), ⟨t, h5, h6, fun v hv => h7 v (hs.subset hv)⟩, fun v hv => h8 v (hs.subset hv), fun v hv => h9 v (hs.subset hv)⟩
/-- a monitor's formula is in order -/
def zFc (i np : Nat) (fa : Nat → Nat → Int32) : Prop := zwf fa (192 + 24 * i) np ∧ np ≤ 24 ∧ 0 < np ∧ ∀ p : Nat, p < np → fa 16 (192 + 24 * i + p) = 1 → (fa 17 (192 + 24 * i + p) = 0 ∨ fa 17 (192 + 24 * i + p) = 1 ∨ fa 17 (192 + 24 * i + p) = 2) ∧ -1000 ≤ (fa 18 (192 + 24 * i + p)).toInt ∧ (fa 18 (192 + 24 * i + p)).toInt ≤ 1000
def zMj (mo : Nat → Nat) (np : Nat) : Prop := ∀ p q : Nat, p < np → q < np → mo (6 + p) = mo (6 + q) → p = q
theorem zLi.rs {i np : Nat} {mo : Nat → Nat} {fi : Nat → Int32} {fa : Nat → Nat → Int32} {R : List Nat} (h : zLi fi fa R) (hc : zFc i np fa) (hj : zMj mo np) : zRs np (192 + 24 * i) (fun p => mo (6 + p)) R fi fa := ⟨hc.1, hc.2.1, h.1, h.2.2.1, h.2.2.2.1, h.2.2.2.2.1, h.2.2.2.2.2.1, hc.2.2.2, hj⟩
/-- the row of a monitor, laid down -/
theorem zMs.ro {X : zX} {i x : Nat} {ad mo fo eo : Nat → Nat} {np : Nat} {t : Int32} {fi : Nat → Int32} {fa : Nat → Nat → Int32} {g : zG} {R : List Nat} {q : Nat} (h : zMs X i x ad mo fo np t fi fa g) (hL : zLs X g (82 + 3 * i) (mo 3) (R.map eo) q) (hE : ∀ v ∈ R, zGo g 4 (eo v) = some (zef fa v)) : zRo X i x (mo 2) (mo 3) (mo 1) (mo 4) np (192 + 24 * i) (fun p => mo (6 + p)) fo eo R (zxs ad fi) fi fa g := by
  refine ⟨h.2.2.2.2.1, ⟨q, hL⟩, h.2.2.1, h.2.2.2.2.2.1, h.2.2.2.1, hE, h.2.1, rfl, _, rfl, ?_⟩
  by_cases c : fi 2 = 0
  · simp [c]
  · simp [c]
/-- what a monitor's looking may change -/
def zPf (i : Nat) (k : Nat) : Prop := zPr i k ∨ k = 1051
section MET
variable {X : zX} {d : Nat} {g : zG} {K : Option Value → zG → Prop} {KX : String → zG → Prop} {i x : Nat} {ad mo fo eo : Nat → Nat} {np : Nat} {t : Int32} {fi : Nat → Int32} {fa : Nat → Nat → Int32}
theorem mt_meet_l (hok : zOk X) (hi : i < 6) (hc : zFc i np fa) {R : List Nat} (hR : zLi fi fa R) {q : Nat} {F : Nat → Int32} {f0 : Nat → Int32} {g0 : zG} {E : zM} (C : zC X (d + 3) E RX8 cX8_meet 5 none "meet") (hQ : zQ X E K KX)
    (hK : ∀ (g' : zG) (f' : Nat → Int32), zFe (fun k => k = 1051) g0 g' → zGz g' = zGz g0 → zGi g' 51 (ad 10) = some (80, f') → (∀ j, j < R.length → f' (zr R j) = zAnd (f0 (zr R j)) (F j)) → (∀ v, (∀ j, j < R.length → ¬ zr R j = v) → f' v = f0 v) → K none g') : ∀ (c k : Nat) (g : zG) (f : Nat → Int32), R.length = k + c → zFe (fun k => k = 1051) g0 g → zGz g = zGz g0 → zMs X i x ad mo fo np t fi fa g → zLs X g (82 + 3 * i) (mo 3) (R.map eo) q → (∀ v ∈ R, zGo g 4 (eo v) = some (zef fa v)) → zGi g (52 + i) (mo (6 + (np - 1))) = some (80, F) → zGi g 51 (ad 10) = some (80, f) → (∀ j, j < k → f (zr R j) = zAnd (f0 (zr R j)) (F j)) → (∀ v, (∀ j, j < k → ¬ zr R j = v) → f v = f0 v) →
    GW X E 5 g 18 [(0, .ref (mo 0)), (3, .int (nI k))] []
  | 0, k, g, f, hk, hF, hz, hM, hL, hE, hT, hf, h1, h2 => by
    have h80 := hR.1
    refine bX8_meet_18 (d := d + 2) C hQ g _ _ ⟨_, _, hM.1, rfl, _, _, hM.2.2.2.2.1, rfl, hL.is (by omega), ls_size hok hL (by omega) ⟨_, rfl, fun _ => ?_, fun z => absurd (show nI ((R.map eo).length) ≤ nI k by rw [List.length_map]; exact nI_le (by omega) (by omega)) z⟩⟩
    exact hK g f hF hz hf (fun j hj => h1 j (by omega)) (fun v hv => h2 v (fun j hj => hv j (by omega)))
  | c + 1, k, g, f, hk, hF, hz, hM, hL, hE, hT, hf, h1, h2 => by
    have h80 := hR.1
    have hkR : k < R.length := by omega
    have hev := hE _ (zr_mem hkR)
    have hv80 := hR.2.2.2.2.2.2 _ (zr_mem hkR)
    have h24 := hc.2.1
    obtain ⟨ft, ht1, ht2⟩ := hM.2.2.2.2.2.1
    have h0 := hc.2.2.1
    refine bX8_meet_18 (d := d + 2) C hQ g _ _ ⟨_, _, hM.1, rfl, _, _, hM.2.2.2.2.1, rfl, hL.is (by omega), ls_size hok hL (by omega) ⟨_, rfl, fun z => absurd z (by rw [List.length_map]; exact nI_ge (by omega) (by omega)), fun _ => ⟨_, _, hM.1, rfl, _, _, hM.2.2.2.2.1, rfl, hL.is (by omega), ls_getm (d := d) hok hL (by omega) hkR ⟨_, rfl, _, rfl, ⟨4, _, hev, rfl⟩, _, _, hev, rfl, _, _, hM.1, rfl, _, _, hM.2.1, rfl, _, _, hM.1, rfl, _, _, hM.2.1, rfl, ?_⟩⟩⟩⟩
    refine ⟨80, f, hf, vp_in_nI (by omega) (by omega), fun v26 e26 => ⟨_, _, hM.1, rfl, _, _, hM.2.2.2.2.1, rfl, _, _, hM.1, rfl, 7, _, _, rfl, hM.2.2.2.1 (np - 1) (by omega), rfl, i, np, ft, ht1, vp_in_nI (by omega) (by omega), fun r hr => ⟨mo (6 + (np - 1)), ?_, 52 + i, 80, F, hT, by omega, vp_in_nI (by omega) (by omega), fun v43 e43 => cp_and hok ⟨_, rfl, 80, f, hf, vp_in_nI (by omega) (by omega), fun g2 e2 => ?_⟩⟩⟩⟩
    · rw [hr, nI_clamp (by omega), ht2 _ (by omega)]
    · rw [nI_clamp (by omega)] at e2 e26 e43
      have hkn : ∀ j, j < R.length → zr R j = zr R k → j = k := fun j hj e => zr_inj hR.2.1 hj hkR e
      have f1 : zFe (fun k => k = 1051) g g2 := by
        subst e2
        exact zFe.si rfl
      rw [← nI_succ]
      refine mt_meet_l hok hi hc hR C hQ hK c (k + 1) g2 _ (by omega) (hF.trans f1) (by subst e2; exact hz) (hM.fe hi f1 (by omega) (by omega) (by omega) (by omega) (by omega) (by omega)) (hL.fe f1 (by omega)) (fun v hv => f1.1 4 (by omega) _ _ (hE v hv)) (f1.2.1 (52 + i) (by omega) _ _ hT) (by subst e2; rw [zSi_i, zup_s]) (fun j hj => ?_) (fun v hv => ?_)
      · by_cases cj : j = k
        · subst cj
          rw [pk_us, e26, e43, h2 (zr R j) (fun j' hj' z => by have := hkn j' (by omega) z; omega)]
        · rw [pk_un (fun z => cj (hkn j (by omega) z))]
          exact h1 j (by omega)
      · rw [pk_un (fun z => hv k (by omega) z.symm)]
        exact h2 v (fun j hj => hv j (by omega))
/-- meet: the answers in a slice are joined to what was found -/
theorem mt_meet (hok : zOk X) (hi : i < 6) (hc : zFc i np fa) (hj : zMj mo np) {tl al ql : Nat} {Ls l0 : List Nat} {id : Int32} (htl : 64 ≤ tl) (hne : tl ≠ 82 + 3 * i) (hLi : zLi fi fa Ls) {q0 : Nat} (hz : zGz g + q0 + 400 ≤ zz X) {D : Nat} (hD : 104 ≤ D) {f0 : Nat → Int32}
    (hM : zMs X i x ad mo fo np t fi fa g) (hL : zLs X g (82 + 3 * i) (mo 3) l0 q0) (hA : zLs X g tl al (Ls.map eo) ql) (hE : ∀ v ∈ Ls, zGo g 4 (eo v) = some (zef fa v)) (hf : zGi g 51 (ad 10) = some (80, f0))
    (hK : ∀ (g' : zG) (q' : Nat) (l' : List Nat) (f' : Nat → Int32), zFe (zPf i) g g' → zGz g' + q' ≤ zGz g + q0 → zLs X g' (82 + 3 * i) (mo 3) l' q' → zMs X i x ad mo fo np t fi fa g' → zGi g' 51 (ad 10) = some (80, f') → (∀ v, f' v = if v ∈ Ls.filter (zfi fa id) then zAnd (f0 v) (zVv fi fa (192 + 24 * i) (Ls.filter (zfi fa id)) (np - 1) ((Ls.filter (zfi fa id)).idxOf v)) else f0 v) → K none g') : zCal X D yX8_meet wX8_meet [.ref (mo 0), .ref al, .int id] g K KX := by
  obtain ⟨d, rfl⟩ : ∃ d, D = d + 3 := ⟨D - 3, by omega⟩
  have h24 := hc.2.1
  have hR := hLi.sub (List.filter_sublist (p := zfi fa id))
  have hs := hR.rs hc hj
  refine mX8_meet (d := d + 2) hok (mo 0) al id (fun E C hQ => ⟨_, _, hM.1, rfl, ⟨9, _, hM.2.2.2.2.1, rfl⟩, rp_lay (id := id) hok hi h24 hj htl hne hLi.1 hz (by omega) hL hM.2.2.2.2 hA hE (fun g1 q1 F e1 e2 e3 e4 e5 => ⟨rfl, ?_⟩)⟩)
  have hM1 := hM.fe' e1 (by unfold zPr; omega) (by unfold zPr; omega) (by unfold zPr; omega) (by unfold zPr; omega) e4
  have hE1 : ∀ v ∈ Ls.filter (zfi fa id), zGo g1 4 (eo v) = some (zef fa v) := fun v hv => e1.1 4 (by unfold zPr; omega) _ _ (hE v (List.mem_filter.mp hv).1)
  refine ⟨_, _, hM1.1, rfl, ⟨9, _, hM1.2.2.2.2.1, rfl⟩, rp_fill hok hi hs (by omega) ⟨hM1.ro e3 hE1, fun p hp => (e5 p hp).1, fun p hp e he => Or.inl ((e5 p hp).2 e he)⟩ (fun g2 F2 b1 b2 b3 => ⟨rfl, ?_⟩)⟩
  have hM2 := hM1.fe' b2.fe (by unfold zPr; omega) (by unfold zPr; omega) (by unfold zPr; omega) (by unfold zPr; omega) ⟨b1.1.1, b1.1.2.2.2.1, fun p hp => ⟨_, b1.2.1 p hp⟩⟩
  have f12 := e1.trans b2.fe
  rw [show (0 : Int32) = nI 0 from nI_0.symm]
  refine mt_meet_l (d := d) (f0 := f0) (g0 := g2) (F := F2 (np - 1)) hok hi hc hR C hQ (fun g3 f3 c1 c2 c3 c4 c5 => ?_) (Ls.filter (zfi fa id)).length 0 g2 f0 (by omega) (zFe.rf _ _) rfl hM2 (e3.eq b2) b1.1.2.2.2.2.2.1 (b1.2.1 (np - 1) (by have := hc.2.2.1; omega)) (f12.2.1 51 (by unfold zPr; omega) _ _ hf) (fun j hj => absurd hj (Nat.not_lt_zero j)) (fun v _ => rfl)
  have g1051 : ∀ k, zPr i k → zPf i k := fun k hk => Or.inl hk
  refine hK g3 q1 _ f3 ((f12.mono g1051).trans (c1.mono (fun k hk => Or.inr hk))) (by rw [c2, b2.2.2.2.1]; exact e2) ((e3.eq b2).fe c1 (by omega)) (hM2.fe hi c1 (by omega) (by omega) (by omega) (by omega) (by omega) (by omega)) c3 (fun v => ?_)
  by_cases c : v ∈ Ls.filter (zfi fa id)
  · rw [if_pos c]
    obtain ⟨a, b⟩ := zr_idx c
    have := c4 _ a
    rw [b, b3 _ (by have := hc.2.2.1; omega) _ a] at this
    exact this
  · rw [if_neg c]
    exact c5 v (fun j hj z => c (z ▸ zr_mem hj))
end MET
