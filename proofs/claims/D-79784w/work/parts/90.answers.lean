set_option maxRecDepth 100000
theorem zfl_p {fa : Nat → Nat → Int32} {i s : Nat} (h : fa 21 i = 0) : zfl fa i s = fun _ => true := by
  funext v
  unfold zfl
  rw [h]
  rfl
theorem zfi_p {fa : Nat → Nat → Int32} : zfi fa (-1) = fun _ => true := by
  funext v
  unfold zfi
  rfl
theorem zfi_s {fa : Nat → Nat → Int32} {i s : Nat} (h : ¬ fa 21 i = 0) (hs : s < 10) : zfi fa (nI s) = zfl fa i s := by
  funext v
  unfold zfi zfl
  have h1 : ((nI s : Int32) == -1) = false := by
    rw [beq_eq_false_iff_ne]
    exact fun z => absurd (show (nI s : Int32) < 0 by rw [z]; decide) (nI_pos (by omega))
  rw [h1, beq_eq_false_iff_ne.mpr h]
  rfl
/-- the found answers of a plain monitor -/
theorem zFd_pl {fi : Nat → Int32} {fa : Nat → Nat → Int32} {ids : Int32} {i n : Nat} {Ls : List Nat} (h : fa 21 i = 0) (v : Nat) : ∀ s : Nat, zFd fi fa ids i n Ls (s + 1) v = if v ∈ Ls then zAnd 1 (zVv fi fa (192 + 24 * i) Ls (n - 1) (Ls.idxOf v)) else 1
  | 0 => by
    have e : zRn fa ids i Ls 0 = Ls := by
      unfold zRn zak
      rw [if_pos h, zfl_p h]
      simp
    show (if v ∈ zRn fa ids i Ls 0 then zAnd 1 (zVv fi fa (192 + 24 * i) (zRn fa ids i Ls 0) (n - 1) ((zRn fa ids i Ls 0).idxOf v)) else 1) = _
    rw [e]
  | s + 1 => by
    have e : zRn fa ids i Ls (s + 1) = [] := by
      unfold zRn zak
      rw [if_pos h]
      simp
    show (if v ∈ zRn fa ids i Ls (s + 1) then _ else zFd fi fa ids i n Ls (s + 1) v) = _
    rw [e, if_neg (List.not_mem_nil)]
    exact zFd_pl h v s
section ANS
variable {X : zX} {d : Nat} {g : zG} {K : Option Value → zG → Prop} {KX : String → zG → Prop} {i x : Nat} {ad mo fo eo : Nat → Nat} {np : Nat} {t : Int32} {fi : Nat → Int32} {fa : Nat → Nat → Int32}
theorem mt_answersIn_1 (hok : zOk X) (hi : i < 6) {al : Nat} {ids : Int32} {g0 : zG} {E : zM} (C : zC X (d + 1) E RX8 cX8_answersIn 4 none "answersIn") (hQ : zQ X E K KX)
    (hK : ∀ (g' : zG) (f : Nat → Int32), zFe (fun k => k = 1051) g0 g' → zGz g' = zGz g0 → zMs X i x ad mo fo np t fi fa g' → zGi g' 51 (ad 10) = some (80, f) → (∀ v, v < 80 → f v = 1) → GW X E 4 g' 2 [(0, .ref (mo 0)), (1, .ref al), (2, .int ids), (3, .int (nI 80))] []) : ∀ (c k : Nat) (g : zG) (f : Nat → Int32), 80 = k + c → zFe (fun k => k = 1051) g0 g → zGz g = zGz g0 → zMs X i x ad mo fo np t fi fa g → zGi g 51 (ad 10) = some (80, f) → (∀ v, v < k → f v = 1) → GW X E 4 g 2 [(0, .ref (mo 0)), (1, .ref al), (2, .int ids), (3, .int (nI k))] []
  | 0, k, g, f, hk, hF, hz, hM, hf, h1 => by
    have : k = 80 := by omega
    subst this
    exact hK g f hF hz hM hf h1
  | c + 1, k, g, f, hk, hF, hz, hM, hf, h1 => by
    refine bX8_answersIn_2 (d := d) C hQ g _ _ _ _ ⟨fun z => absurd (show (nI 80 : Int32) ≤ nI k from z) (nI_ge (by omega) (by omega)), fun _ => ⟨_, _, hM.1, rfl, _, _, hM.2.1, rfl, 80, f, hf, vp_in_nI (by omega) (by omega), fun g2 e2 => ?_⟩⟩
    rw [nI_clamp (by omega)] at e2
    have f1 : zFe (fun k => k = 1051) g g2 := by
      subst e2
      exact zFe.si rfl
    rw [← nI_succ]
    refine mt_answersIn_1 hok hi C hQ hK c (k + 1) g2 _ (by omega) (hF.trans f1) (by subst e2; exact hz) (hM.fe hi f1 (by omega) (by omega) (by omega) (by omega) (by omega) (by omega)) (by subst e2; rw [zSi_i, zup_s]) (fun v hv => ?_)
    by_cases cv : v = k
    · subst cv
      exact pk_us
    · rw [pk_un cv]
      exact h1 v (by omega)
/-- what meet needs of the line -/
def zLA (X : zX) (tl al ql : Nat) (eo : Nat → Nat) (fa : Nat → Nat → Int32) (Ls : List Nat) (g : zG) : Prop := zLs X g tl al (Ls.map eo) ql ∧ ∀ v ∈ Ls, zGo g 4 (eo v) = some (zef fa v)
theorem zLA.fe {tl al ql : Nat} {Ls : List Nat} {P : Nat → Prop} {g g' : zG} (h : zLA X tl al ql eo fa Ls g) (e : zFe P g g') (h1 : ¬ P tl) (h2 : ¬ P 4) : zLA X tl al ql eo fa Ls g' := ⟨h.1.fe e h1, fun v hv => e.1 4 h2 _ _ (h.2 v hv)⟩
theorem mt_answersIn_2 (hok : zOk X) (hi : i < 6) (hc : zFc i np fa) (hj : zMj mo np) {tl al ql : Nat} {Ls : List Nat} {ids : Int32} (htl : 64 ≤ tl) (htu : tl < 1000) (hne : tl ≠ 82 + 3 * i) (hLi : zLi fi fa Ls) {g0 : zG} {q0 : Nat} (hz0 : zGz g0 + q0 + 400 ≤ zz X) (hd : 104 ≤ d) {E : zM} (C : zC X (d + 1) E RX8 cX8_answersIn 4 none "answersIn") (hQ : zQ X E K KX)
    (hK : ∀ (g' : zG) (q' : Nat) (l' : List Nat) (f' : Nat → Int32), zFe (zPf i) g0 g' → zGz g' + q' ≤ zGz g0 + q0 → zLs X g' (82 + 3 * i) (mo 3) l' q' → zMs X i x ad mo fo np t fi fa g' → zGi g' 51 (ad 10) = some (80, f') → (∀ v, v < 80 → f' v = zFd fi fa ids i np Ls 10 v) → K none g') : ∀ (c k : Nat) (g : zG) (q : Nat) (l : List Nat) (f : Nat → Int32), 10 = k + c → zFe (zPf i) g0 g → zGz g + q ≤ zGz g0 + q0 → zLs X g (82 + 3 * i) (mo 3) l q → zMs X i x ad mo fo np t fi fa g → zLA X tl al ql eo fa Ls g → zGi g 51 (ad 10) = some (80, f) → (∀ v, v < 80 → f v = if fa 21 i = 0 then zFd fi fa ids i np Ls 10 v else zFd fi fa ids i np Ls k v) →
    GW X E 4 g 39 [(0, .ref (mo 0)), (1, .ref al), (2, .int ids), (3, .int (nI k))] []
  | 0, k, g, q, l, f, hk, hF, hz, hL, hM, hA, hf, h1 => by
    have : k = 10 := by omega
    subst this
    refine bX8_answersIn_39 (d := d) C hQ g _ _ _ _ ⟨fun _ => hK g q l f hF hz hL hM hf (fun v hv => ?_), fun z => absurd (show (10 : Int32) ≤ nI 10 by decide) z⟩
    rw [h1 v hv]
    exact ite_self _
  | c + 1, k, g, q, l, f, hk, hF, hz, hL, hM, hA, hf, h1 => by
    refine bX8_answersIn_39 (d := d) C hQ g _ _ _ _ ⟨fun z => absurd (show (nI 10 : Int32) ≤ nI k from z) (nI_ge (by omega) (by omega)), fun _ => ⟨_, _, hM.1, rfl, fun c1 => ?_, fun c1 => ⟨fun c2 => ?_, fun c2 => ⟨⟨8, _, hM.1, rfl⟩, ?_⟩⟩⟩⟩
    · refine hK g q l f hF hz hL hM hf (fun v hv => ?_)
      rw [h1 v hv, if_pos c1]
    · rw [← nI_succ]
      refine mt_answersIn_2 hok hi hc hj htl htu hne hLi hz0 hd C hQ hK c (k + 1) g q l f (by omega) hF hz hL hM hA hf (fun v hv => ?_)
      rw [h1 v hv, if_neg c1, if_neg c1]
      have e : zRn fa ids i Ls k = [] := by
        unfold zRn zak
        rw [if_neg c1, beq_eq_false_iff_ne.mpr c2]
        rfl
      show _ = (if v ∈ zRn fa ids i Ls k then _ else zFd fi fa ids i np Ls k v)
      rw [e, if_neg (List.not_mem_nil)]
    · refine mt_meet hok hi hc hj htl hne hLi (q0 := q) (by omega) hd hM hL hA.1 hA.2 hf (fun g' q' l' f' b1 b2 b3 b4 b5 b6 => ⟨rfl, ?_⟩)
      rw [← nI_succ]
      refine mt_answersIn_2 hok hi hc hj htl htu hne hLi hz0 hd C hQ hK c (k + 1) g' q' l' f' (by omega) (hF.trans b1) (by omega) b3 b4 (hA.fe b1 (by unfold zPf zPr; omega) (by unfold zPf zPr; omega)) b5 (fun v hv => ?_)
      rw [b6 v, h1 v hv, if_neg c1, if_neg c1, zfi_s c1 (by omega)]
      have e : zRn fa ids i Ls k = Ls.filter (zfl fa i k) := by
        unfold zRn zak
        rw [if_neg c1, c2]
        rfl
      show _ = (if v ∈ zRn fa ids i Ls k then zAnd (zFd fi fa ids i np Ls k v) (zVv fi fa (192 + 24 * i) (zRn fa ids i Ls k) (np - 1) ((zRn fa ids i Ls k).idxOf v)) else zFd fi fa ids i np Ls k v)
      rw [e]
/-- answersIn: what the model finds -/
theorem mt_answersIn (hok : zOk X) (hi : i < 6) (hc : zFc i np fa) (hj : zMj mo np) {tl al ql : Nat} {Ls l0 : List Nat} {ids : Int32} (htl : 64 ≤ tl) (htu : tl < 1000) (hne : tl ≠ 82 + 3 * i) (hLi : zLi fi fa Ls) {q0 : Nat} (hz : zGz g + q0 + 400 ≤ zz X) {D : Nat} (hD : 105 ≤ D) {f0 : Nat → Int32}
    (hM : zMs X i x ad mo fo np t fi fa g) (hL : zLs X g (82 + 3 * i) (mo 3) l0 q0) (hA : zLA X tl al ql eo fa Ls g) (hf : zGi g 51 (ad 10) = some (80, f0))
    (hK : ∀ (g' : zG) (q' : Nat) (l' : List Nat) (f' : Nat → Int32), zFe (zPf i) g g' → zGz g' + q' ≤ zGz g + q0 → zLs X g' (82 + 3 * i) (mo 3) l' q' → zMs X i x ad mo fo np t fi fa g' → zGi g' 51 (ad 10) = some (80, f') → (∀ v, v < 80 → f' v = zFd fi fa ids i np Ls 10 v) → K none g') : zCal X D yX8_answersIn wX8_answersIn [.ref (mo 0), .ref al, .int ids] g K KX := by
  obtain ⟨d, rfl⟩ : ∃ d, D = d + 1 := ⟨D - 1, by omega⟩
  have m51 : ∀ k, k = 1051 → zPf i k := fun k hk => Or.inr hk
  refine mX8_answersIn (d := d) hok (mo 0) al ids (fun E C hQ => ?_)
  rw [show (0 : Int32) = nI 0 from nI_0.symm]
  refine mt_answersIn_1 (d := d) (g0 := g) hok hi C hQ (fun g1 f1 a1 a2 a3 a4 a5 => ?_) 80 0 g f0 (by omega) (zFe.rf _ _) rfl hM hf (fun v hv => absurd hv (Nat.not_lt_zero v))
  have hA1 := hA.fe a1 (by omega) (by omega)
  have hL1 := hL.fe a1 (by omega)
  refine bX8_answersIn_2 (d := d) C hQ g1 _ _ _ _ ⟨fun _ => ⟨_, _, a3.1, rfl, fun c1 => ?_, fun c1 => ⟨⟨8, _, a3.1, rfl⟩, ?_⟩⟩, fun z => absurd (show (80 : Int32) ≤ nI 80 by decide) z⟩
  · rw [show (0 : Int32) = nI 0 from nI_0.symm]
    refine mt_answersIn_2 (d := d) (g0 := g) (q0 := q0) hok hi hc hj htl htu hne hLi hz (by omega) C hQ hK 10 0 g1 q0 l0 f1 (by omega) (a1.mono m51) (by omega) hL1 a3 hA1 a4 (fun v hv => ?_)
    rw [if_neg c1, a5 v hv]
    rfl
  · refine mt_meet hok hi hc hj htl hne hLi (q0 := q0) (by omega) (by omega) a3 hL1 hA1.1 hA1.2 a4 (fun g' q' l' f' b1 b2 b3 b4 b5 b6 => ⟨rfl, ?_⟩)
    rw [show (0 : Int32) = nI 0 from nI_0.symm]
    refine mt_answersIn_2 (d := d) (g0 := g) (q0 := q0) hok hi hc hj htl htu hne hLi hz (by omega) C hQ hK 10 0 g' q' l' f' (by omega) ((a1.mono m51).trans b1) (by omega) b3 b4 (hA1.fe b1 (by unfold zPf zPr; omega) (by unfold zPf zPr; omega)) b5 (fun v hv => ?_)
    rw [if_pos c1, b6 v, a5 v hv, zFd_pl c1, zfi_p]
    have e : Ls.filter (fun _ => true) = Ls := by simp
    rw [e]
end ANS
