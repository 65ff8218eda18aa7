set_option maxRecDepth 100000
section RLY
variable {X : zX} {d : Nat} {g : zG} {K : Option Value → zG → Prop} {KX : String → zG → Prop} {i x rw rl pl ra n base : Nat} {rr fo eo : Nat → Nat} {R : List Nat} {xs : List Value} {fi : Nat → Int32} {fa : Nat → Nat → Int32}
theorem rp_fill_e (hok : zOk X) (hi : i < 6) (hs : zRs n base rr R fi fa) {p : Nat} (hp : p < n) {g0 : zG} {F0 : Nat → Nat → Int32} {E : zM} (hd : 4 * p + 5 ≤ d) (C : zC X (d + 1) E RX9 cX9_fill 4 none "fill") (hQ : zQ X E K KX)
    (hK : ∀ (g' : zG) (F' : Nat → Nat → Int32), zRc X i x rw rl pl ra n base rr fo eo R xs fi fa g' F' → zAf i n R.length g0 F0 g' F' → (∀ q, q < p + 1 → ∀ k, k < R.length → ¬ F' q k = -1) → GW X E 4 g' 2 [(0, .ref rw), (1, .int (nI (p + 1)))] []) : ∀ (c e : Nat) (g : zG) (F : Nat → Nat → Int32), R.length = e + c → zRc X i x rw rl pl ra n base rr fo eo R xs fi fa g F → zAf i n R.length g0 F0 g F → (∀ q, q < p → ∀ k, k < R.length → ¬ F q k = -1) → (∀ k, k < e → ¬ F p k = -1) →
    GW X E 4 g 31 [(0, .ref rw), (1, .int (nI p)), (2, .ref (fo p)), (3, .int (nI e))] []
  | 0, e, g, F, hc, hR, hA, h1, h2 => by
    have h80 := hs.2.2.1
    refine bX9_fill_31 (d := d) C hQ g _ _ _ _ ⟨_, _, hR.1.1, rfl, hR.1.l, rp_size hok hR.1 ⟨_, rfl, fun _ => ?_, fun z => absurd (nI_le (by omega) (by omega)) z⟩⟩
    rw [← nI_succ]
    refine hK g F hR hA (fun q hq k hk => ?_)
    by_cases c : q = p
    · subst c
      exact h2 k (by omega)
    · exact h1 q (by omega) k hk
  | c + 1, e, g, F, hc, hR, hA, h1, h2 => by
    have h80 := hs.2.2.1
    have h24 := hs.2.1
    obtain ⟨f, hf1, hf2⟩ := hR.1.2.2.2.1
    refine bX9_fill_31 (d := d) C hQ g _ _ _ _ ⟨_, _, hR.1.1, rfl, hR.1.l, rp_size hok hR.1 ⟨_, rfl, fun z => absurd z (nI_ge (by omega) (by omega)), fun _ => ⟨_, _, hR.1.1, rfl, 7, _, _, rfl, hR.1.wf hp, rfl, i, n, f, hf1, vp_in_nI hp (by omega), fun r hr => ⟨hR.1.w, ?_⟩⟩⟩⟩
    rw [nI_clamp (by omega), hf2 p hp] at hr
    refine rp_answer hok hs hp (by omega) (fun q hq => rp_at hok hi hs p q hq (by omega)) (by omega) hR (fun g1 F1 hR1 hA1 => ⟨_, rfl, rr p, hr, 52 + i, 80, _, hR1.2.1 p hp, by omega, vp_in_nI (by omega) (by omega), fun g2 e2 => ?_⟩)
    rw [nI_clamp (by omega)] at e2
    obtain ⟨hR2, hA2⟩ := hR1.cell hi hs hp (by omega) e2
    rw [← nI_succ]
    have hA12 := hA1.trans hA2
    refine rp_fill_e hok hi hs hp hd C hQ hK c (e + 1) g2 _ (by omega) hR2 (hA.trans hA12) (fun q hq k hk => hA12.2 q (by omega) k hk (h1 q hq k hk)) (fun k hk => ?_)
    by_cases ck : k = e
    · subst ck
      rw [va_up_self, pk_us]
      exact z3_m1 (zVv_3 _ _ _ _ _ _)
    · exact hA12.2 p hp k (by omega) (h2 k (by omega))
theorem rp_fill_p (hok : zOk X) (hi : i < 6) (hs : zRs n base rr R fi fa) {g0 : zG} {F0 : Nat → Nat → Int32} {E : zM} (hd : 4 * n + 5 ≤ d) (C : zC X (d + 1) E RX9 cX9_fill 4 none "fill") (hQ : zQ X E K KX)
    (hK : ∀ (g' : zG) (F' : Nat → Nat → Int32), zRc X i x rw rl pl ra n base rr fo eo R xs fi fa g' F' → zAf i n R.length g0 F0 g' F' → (∀ q, q < n → ∀ k, k < R.length → ¬ F' q k = -1) → K none g') : ∀ (c p : Nat) (g : zG) (F : Nat → Nat → Int32), n = p + c → zRc X i x rw rl pl ra n base rr fo eo R xs fi fa g F → zAf i n R.length g0 F0 g F → (∀ q, q < p → ∀ k, k < R.length → ¬ F q k = -1) →
    GW X E 4 g 2 [(0, .ref rw), (1, .int (nI p))] []
  | 0, p, g, F, hc, hR, hA, h1 => by
    have h24 := hs.2.1
    obtain ⟨q, hq⟩ := hR.1.2.2.1
    refine bX9_fill_2 (d := d) C hQ g _ _ ⟨_, _, hR.1.1, rfl, hq.is (by omega), ls_size hok hq (by omega) ⟨_, rfl, fun _ => hK g F hR hA (fun r hr => h1 r (by omega)), fun z => absurd (show nI (((List.range n).map fo).length) ≤ nI p by rw [List.length_map, List.length_range]; exact nI_le (by omega) (by omega)) z⟩⟩
  | c + 1, p, g, F, hc, hR, hA, h1 => by
    have h24 := hs.2.1
    obtain ⟨q, hq⟩ := hR.1.2.2.1
    obtain ⟨d', hd'⟩ : ∃ d', d = d' + 2 := ⟨d - 2, by omega⟩
    refine bX9_fill_2 (d := d) C hQ g _ _ ⟨_, _, hR.1.1, rfl, hq.is (by omega), ls_size hok hq (by omega) ⟨_, rfl, fun z => absurd z (by rw [List.length_map, List.length_range]; exact nI_ge (by omega) (by omega)), fun _ => ⟨_, _, hR.1.1, rfl, hq.is (by omega), ?_⟩⟩⟩
    rw [hd']
    refine ls_getm (R := List.range n) hok hq (by omega) (by rw [List.length_range]; omega) ⟨_, rfl, _, rfl, ?_⟩
    have hz : zr (List.range n) p = p := by
      unfold zr
      rw [List.getD_eq_getElem?_getD, List.getElem?_range (by omega)]
      rfl
    rw [hz, show (0 : Int32) = nI 0 from nI_0.symm]
    exact ⟨⟨7, _, hR.1.wf (p := p) (by omega), rfl⟩, rp_fill_e (d := d) hok hi hs (by omega) (by omega) C hQ (fun g' F' b1 b2 b3 => rp_fill_p hok hi hs hd C hQ hK c (p + 1) g' F' (by omega) b1 b2 b3) R.length 0 g F (by omega) hR hA h1 (fun k hk => absurd hk (Nat.not_lt_zero k))⟩
/-- fill: all cells are right -/
theorem rp_fill (hok : zOk X) (hi : i < 6) (hs : zRs n base rr R fi fa) {D : Nat} (hD : 4 * n + 6 ≤ D) {F : Nat → Nat → Int32} (hR : zRc X i x rw rl pl ra n base rr fo eo R xs fi fa g F)
    (hK : ∀ (g' : zG) (F' : Nat → Nat → Int32), zRc X i x rw rl pl ra n base rr fo eo R xs fi fa g' F' → zEq i g g' → (∀ q, q < n → ∀ k, k < R.length → F' q k = zVv fi fa base R q k) → K none g') : zCal X D yX9_fill wX9_fill [.ref rw] g K KX := by
  obtain ⟨d, rfl⟩ : ∃ d, D = d + 1 := ⟨D - 1, by omega⟩
  refine mX9_fill (d := d) hok rw (fun E C hQ => ?_)
  rw [show (0 : Int32) = nI 0 from nI_0.symm]
  exact rp_fill_p (d := d) hok hi hs (by omega) C hQ (fun g' F' b1 b2 b3 => hK g' F' b1 b2.1 (fun q hq k hk => (b1.2.2 q hq k hk).resolve_left (b3 q hq k hk))) n 0 g F (by omega) hR (zAf.rf _ _ _ _ _) (fun q hq => absurd hq (Nat.not_lt_zero q))
/-- what lay and what comes behind it may change -/
def zPr (i : Nat) (k : Nat) : Prop := k = 82 + 3 * i ∨ k = 1052 + i
/-- the row object and its table, whatever the row holds -/
def zRt (X : zX) (i x rw rl pl ra n : Nat) (rr : Nat → Nat) (g : zG) : Prop := zGo g 9 rw = some [.ref rl, .ref pl, .ref ra, .ref x] ∧ (∃ f : Nat → Option Nat, zGq g i ra = some (n, f) ∧ ∀ p : Nat, p < n → f p = some (rr p)) ∧ ∀ p : Nat, p < n → ∃ F : Nat → Int32, zGi g (52 + i) (rr p) = some (80, F)
theorem zRt.fe {i x rw rl pl ra n : Nat} {rr : Nat → Nat} {g g' : zG} {P : Nat → Prop} (h : zRt X i x rw rl pl ra n rr g) (hi : i < 6) (e : zFe P g g') (h9 : ¬ P 9) (ht : ¬ P (1052 + i)) : zRt X i x rw rl pl ra n rr g' := by
  obtain ⟨h1, ⟨f, h2, h3⟩, h4⟩ := h
  refine ⟨e.1 9 h9 _ _ h1, ⟨f, e.2.2.1 i (Or.inl (by omega)) _ _ h2, h3⟩, fun p hp => ?_⟩
  obtain ⟨F, hF⟩ := h4 p hp
  exact ⟨F, e.2.1 (52 + i) (by rw [show 1000 + (52 + i) = 1052 + i by omega]; exact ht) _ _ hF⟩
/-- the cells are set back, from part p and place k on -/
theorem rp_lay_c (hok : zOk X) (hi : i < 6) (h24 : n ≤ 24) (h80 : R.length ≤ 80) (hrr : ∀ p q : Nat, p < n → q < n → rr p = rr q → p = q) {q : Nat} {g0 : zG} {E : zM} (C : zC X (d + 1) E RX9 cX9_lay 5 none "lay") (hQ : zQ X E K KX)
    (hK : ∀ (g' : zG), zEq i g0 g' → zRt X i x rw rl pl ra n rr g' → (∃ F : Nat → Nat → Int32, ∀ p, p < n → zGi g' (52 + i) (rr p) = some (80, F p) ∧ ∀ k, k < R.length → F p k = -1) → K none g') : ∀ (c p c2 k : Nat) (g : zG), n = p + c → R.length = k + c2 → zEq i g0 g → zLs X g (82 + 3 * i) rl (R.map eo) q → zRt X i x rw rl pl ra n rr g → (∀ p', p' < p → ∃ F : Nat → Int32, zGi g (52 + i) (rr p') = some (80, F) ∧ ∀ k, k < R.length → F k = -1) → (p < n → ∃ F : Nat → Int32, zGi g (52 + i) (rr p) = some (80, F) ∧ ∀ k', k' < k → F k' = -1) →
    (k = 0 → GW X E 5 g 88 [(0, .ref rw), (3, .int (nI p))] []) ∧ (p < n → GW X E 5 g 100 [(0, .ref rw), (3, .int (nI p)), (4, .int (nI k))] [])
  | 0, p, c2, k, g, hc, hc2, hE, hL, hT, h1, h2 => by
    refine ⟨fun _ => ?_, fun z => absurd z (by omega)⟩
    obtain ⟨t1, ⟨f, t2, t3⟩, t4⟩ := hT
    refine bX9_lay_88 (d := d) C hQ g _ _ ⟨_, _, t1, rfl, n, Or.inl ⟨i, f, t2⟩, fun v hv => ?_⟩
    subst hv
    refine ⟨fun _ => hK g hE ⟨t1, ⟨f, t2, t3⟩, t4⟩ ?_, fun z => absurd (show Int32.ofNat n ≤ nI p from nI_le (by omega) (by omega)) z⟩
    have hh : ∀ p', ∃ F : Nat → Int32, p' < n → zGi g (52 + i) (rr p') = some (80, F) ∧ ∀ k, k < R.length → F k = -1 := fun p' => by
      by_cases cc : p' < n
      · obtain ⟨F, a, b⟩ := h1 p' (by omega)
        exact ⟨F, fun _ => ⟨a, b⟩⟩
      · exact ⟨fun _ => 0, fun z => absurd z cc⟩
    exact ⟨fun p' => (hh p').choose, fun p' hp' => (hh p').choose_spec hp'⟩
  | c + 1, p, c2, k, g, hc, hc2, hE, hL, hT, h1, h2 => by
    have body : ∀ (c2 k : Nat) (g : zG), R.length = k + c2 → zEq i g0 g → zLs X g (82 + 3 * i) rl (R.map eo) q → zRt X i x rw rl pl ra n rr g → (∀ p', p' < p → ∃ F : Nat → Int32, zGi g (52 + i) (rr p') = some (80, F) ∧ ∀ k, k < R.length → F k = -1) → (∃ F : Nat → Int32, zGi g (52 + i) (rr p) = some (80, F) ∧ ∀ k', k' < k → F k' = -1) → GW X E 5 g 100 [(0, .ref rw), (3, .int (nI p)), (4, .int (nI k))] [] := by
      intro c2
      induction c2 with
      | zero =>
        intro k g hc2 hE hL hT h1 h2
        refine bX9_lay_100 (d := d) C hQ g _ _ _ ⟨_, _, hT.1, rfl, hL.is (by omega), ls_size hok hL (by omega) ⟨_, rfl, fun _ => ?_, fun z => absurd (show nI ((R.map eo).length) ≤ nI k by rw [List.length_map]; exact nI_le (by omega) (by omega)) z⟩⟩
        rw [← nI_succ]
        refine (rp_lay_c hok hi h24 h80 hrr C hQ hK c (p + 1) R.length 0 g (by omega) (by omega) hE hL hT (fun p' hp' => ?_) (fun hp => ?_)).1 rfl
        · by_cases cp : p' = p
          · subst cp
            obtain ⟨F, a, b⟩ := h2
            exact ⟨F, a, fun k' hk' => b k' (by omega)⟩
          · exact h1 p' (by omega)
        · obtain ⟨F, a⟩ := hT.2.2 (p + 1) hp
          exact ⟨F, a, fun k' hk' => absurd hk' (Nat.not_lt_zero k')⟩
      | succ c2 ih =>
        intro k g hc2 hE hL hT h1 h2
        obtain ⟨t1, ⟨f, t2, t3⟩, t4⟩ := hT
        obtain ⟨F, a, b⟩ := h2
        refine bX9_lay_100 (d := d) C hQ g _ _ _ ⟨_, _, t1, rfl, hL.is (by omega), ls_size hok hL (by omega) ⟨_, rfl, fun z => absurd z (by rw [List.length_map]; exact nI_ge (by omega) (by omega)), fun _ => ⟨_, _, t1, rfl, i, n, f, t2, vp_in_nI (by omega) (by omega), fun r hr => ⟨rr p, ?_, 52 + i, 80, F, a, by omega, vp_in_nI (by omega) (by omega), fun g2 e2 => ?_⟩⟩⟩⟩
        · rw [hr, nI_clamp (by omega), t3 p (by omega)]
        · rw [nI_clamp (by omega)] at e2
          have hE2 : zEq i g g2 := by
            subst e2
            refine ⟨rfl, rfl, rfl, rfl, fun t ht => ?_⟩
            funext b
            rw [zSi_i, zup_k _ _ _ _ ht]
          have cell : ∀ p', p' < n → p' ≠ p → zGi g2 (52 + i) (rr p') = zGi g (52 + i) (rr p') := fun p' hp' hne => by
            subst e2
            rw [zSi_i, zup_a _ _ _ _ (fun z => hne (hrr p' p hp' (by omega) z))]
          have own : zGi g2 (52 + i) (rr p) = some (80, upd F k (-1)) := by
            subst e2
            rw [zSi_i, zup_s]
          rw [← nI_succ]
          refine ih (k + 1) g2 (by omega) (hE.trans hE2) (hL.eq hE2) ⟨by rw [hE2.1]; exact t1, ⟨f, by rw [hE2.2.1]; exact t2, t3⟩, fun p' hp' => ?_⟩ (fun p' hp' => ?_) ⟨_, own, fun k' hk' => ?_⟩
          · by_cases cp : p' = p
            · subst cp
              exact ⟨_, own⟩
            · rw [cell p' hp' cp]
              exact t4 p' hp'
          · rw [cell p' (by omega) (by omega)]
            exact h1 p' hp'
          · by_cases ck : k' = k
            · subst ck
              rw [pk_us]
            · rw [pk_un ck]
              exact b k' (by omega)
    refine ⟨fun hk0 => ?_, fun hp => body c2 k g hc2 hE hL hT h1 (h2 hp)⟩
    subst hk0
    obtain ⟨t1, ⟨f, t2, t3⟩, t4⟩ := id hT
    refine bX9_lay_88 (d := d) C hQ g _ _ ⟨_, _, t1, rfl, n, Or.inl ⟨i, f, t2⟩, fun v hv => ?_⟩
    subst hv
    refine ⟨fun z => absurd z (show ¬ Int32.ofNat n ≤ nI p from nI_ge (by omega) (by omega)), fun _ => ?_⟩
    rw [show (0 : Int32) = nI 0 from nI_0.symm]
    exact body c2 0 g hc2 hE hL hT h1 (h2 (by omega))
end RLY
