set_option maxRecDepth 100000
/-- the monitors' formulas: np i parts of monitor i -/
def zMo (fi : Nat → Int32) (fa : Nat → Nat → Int32) (M : Nat) (np : Nat → Nat) : Prop := M ≤ 6 ∧ fi 20 = nI M ∧ ∀ i : Nat, i < M → np i ≤ 24 ∧ 0 < np i ∧ zwf fa (192 + 24 * i) (np i) ∧ fa 23 i = nI (np i)
section KPA
variable {X : zX} {d : Nat} {g : zG} {K : Option Value → zG → Prop} {KX : String → zG → Prop} {m : Nat} {fi : Nat → Int32} {ad : Nat → Nat} {fa : Nat → Nat → Int32} {lg : List Nat}
theorem mp_keepsAll_l (hok : zOk X) (hL : zLg fi fa lg) (hall : ∀ k, k < lg.length → k ∈ lg) {M old : Nat} {np : Nat → Nat} (hM0 : zMo fi fa M np) (ho : old ≤ 80) {E : zM} (C : zC X (d + 6) E RX3 cX3_keepsAll 4 (some .int) "keepsAll") (hQ : zQ X E K KX)
    (hK : ∀ (g' : zG) (fi' : Nat → Int32) (fa' : Nat → Nat → Int32), zMd g' m fi' ad fa' → zNm g g' → zkF fi fi' → zka fa (fun i => zAn fi fa i (np i) lg lg.length) (fi 3) old lg.length M fa' → K (some (.int (zkS fa (fun i => zAn fi fa i (np i) lg lg.length) old lg.length M))) g') : ∀ (c k : Nat) (g1 : zG) (fi' : Nat → Int32) (fa' : Nat → Nat → Int32), M = k + c → zMd g1 m fi' ad fa' → zNm g g1 → zkF fi fi' → zka fa (fun i => zAn fi fa i (np i) lg lg.length) (fi 3) old lg.length k fa' →
    GW X E 4 g1 4 [(0, .ref m), (1, .int (nI old)), (2, .int (zkS fa (fun i => zAn fi fa i (np i) lg lg.length) old lg.length k)), (3, .int (nI k))] []
  | 0, k, g1, fi', fa', hc, hM, hN, hF, hA => by
    have : M = k := by omega
    subst this
    refine bX3_keepsAll_4 (d := d + 5) C hQ g1 m _ _ _ ⟨_, _, hM.1, rfl, fun _ => hK g1 fi' fa' hM hN hF hA, fun z => absurd (show fi' 20 ≤ nI M by rw [hF 20 (by decide) (by decide) (by decide), hM0.2.1]; have := hM0.1; exact nI_le (by omega) (by omega)) z⟩
  | c + 1, k, g1, fi', fa', hc, hM, hN, hF, hA => by
    obtain ⟨m1, m2, m3⟩ := hM0
    obtain ⟨q1, q2, q3, q4⟩ := m3 k (by omega)
    have hsa : zSa fi fa fi' fa' := ⟨hF 2 (by decide) (by decide) (by decide), hF 5 (by decide) (by decide) (by decide), hA.1 7 (by decide) (by decide) (by decide) (by decide) (by decide) (by decide) (by decide), hA.1 8 (by decide) (by decide) (by decide) (by decide) (by decide) (by decide) (by decide), hA.1 9 (by decide) (by decide) (by decide) (by decide) (by decide) (by decide) (by decide), hA.1 10 (by decide) (by decide) (by decide) (by decide) (by decide) (by decide) (by decide), hA.1 16 (by decide) (by decide) (by decide) (by decide) (by decide) (by decide) (by decide), hA.1 17 (by decide) (by decide) (by decide) (by decide) (by decide) (by decide) (by decide), hA.1 18 (by decide) (by decide) (by decide) (by decide) (by decide) (by decide) (by decide), hA.1 19 (by decide) (by decide) (by decide) (by decide) (by decide) (by decide) (by decide), hA.1 21 (by decide) (by decide) (by decide) (by decide) (by decide) (by decide) (by decide)⟩
    have h3 : fi' 3 = fi 3 := hF 3 (by decide) (by decide) (by decide)
    have hL' : zLg fi' fa' lg := ⟨h3.trans hL.1, hL.2.1, hL.2.2.1, hL.2.2.2.1, fun j hj => by rw [hA.1 12 (by decide) (by decide) (by decide) (by decide) (by decide) (by decide) (by decide)]; exact hL.2.2.2.2 j hj⟩
    refine bX3_keepsAll_4 (d := d + 5) C hQ g1 m _ _ _ ⟨_, _, hM.1, rfl, fun z => absurd z (by rw [hF 20 (by decide) (by decide) (by decide), m2]; exact nI_ge (by omega) (by omega)), fun _ => ⟨hM.is, mp_keeps (n := np k) hok hM hL' hall (by omega) q1 q2 (q3.fa' (fun j h1 h2 => hA.1 j (by omega) (by omega) (by omega) (by omega) (by omega) (by omega) (by omega))) (by rw [hA.1 23 (by decide) (by decide) (by decide) (by decide) (by decide) (by decide) (by decide)]; exact q4) ho (fun g2 fi2 fa2 b1 b2 b3 b4 => ⟨_, rfl, ?_⟩)⟩⟩
    rw [zAn_sa hsa, h3] at b4
    rw [zAn_sa hsa, ← nI_succ, zks_p (fa := fa) _ _ _ _ (fun e he => by rw [hA.2.1 k e (by have := hL.2.1; omega), if_neg (by omega)])]
    exact mp_keepsAll_l hok hL hall ⟨m1, m2, m3⟩ ho C hQ hK c (k + 1) g2 fi2 fa2 (by omega) b1 (hN.trans b2) (fun j h1 h2 h3 => (b3 j h1 h2 h3).trans (hF j h1 h2 h3)) (zka_s hL.2.1 hA b4)
theorem mp_keepsAll (hok : zOk X) (hM : zMd g m fi ad fa) (hL : zLg fi fa lg) (hall : ∀ k, k < lg.length → k ∈ lg) {M old : Nat} {np : Nat → Nat} (hM0 : zMo fi fa M np) (ho : old ≤ 80)
    (hK : ∀ (g' : zG) (fi' : Nat → Int32) (fa' : Nat → Nat → Int32), zMd g' m fi' ad fa' → zNm g g' → zkF fi fi' → zka fa (fun i => zAn fi fa i (np i) lg lg.length) (fi 3) old lg.length M fa' → K (some (.int (zkS fa (fun i => zAn fi fa i (np i) lg lg.length) old lg.length M))) g') : zCal X (d + 6) yX3_keepsAll wX3_keepsAll [.ref m, .int (nI old)] g K KX := by
  refine mX3_keepsAll (d := d + 5) hok m _ (fun E C hQ => ?_)
  have := mp_keepsAll_l (d := d) hok hL hall hM0 ho C hQ hK M 0 g fi fa (Nat.zero_add _).symm hM (zNm.rf g) (fun _ _ _ _ => rfl) (zka_0 _ _ _ _ _)
  rw [nI_0] at this
  exact this
end KPA
