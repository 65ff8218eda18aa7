set_option maxRecDepth 100000
/-! the pairs (printed by gen/mkp.py) -/
section PAIRS
variable {X : zX} {x m o b0 k D : Nat} {g : zG} {KX : String → zG → Prop} {v w u q r : Int32}
theorem pr_timeOf (hok : zOk X) (hb : b0 + 15000 * 64 + 20000 ≤ zz X) (hk : k < 64) (hD : 400 ≤ D) (hO : zOut o g) {cd0 : Int32} (I : zIw X x m b0 k cd0 g) : zPair X x m o b0 k yX1_timeOf wX1_timeOf yX3_timeOf wX3_timeOf [.int v] D g [(RJ9, 1)] KX := by
  obtain ⟨d, rfl⟩ : ∃ d, D = d + 8 := ⟨D - 8, by omega⟩
  obtain ⟨fi, fa, adm, lg, M, P, np, sz, -, hR, hM, hV, hno⟩ := I
  have h80 := hV.1.2.1
  have hm6 := hV.2.2.1.1
  have h3 := hV.1.1
  have h20 := hV.2.2.1.2.1
  refine cs_timeOf hok hV hR (by omega) (by omega) (fun j hj ej => ⟨_, rfl, zPar.mk hO (zFe.rf _ _) hM (fun g1' hM' => ?_)⟩) (fun z => ⟨1, List.mem_cons_self, zPar.mk hO (zFe.sz _) hM (fun g1' hM' => ?_)⟩)
  · refine mp_timeOf (d := d + 6) hok hM' h80 h3 (fun j' hj' ej' g2 a1 a2 => ?_) (fun z => absurd z (by rw [ej]; exact zIn_in hj (by omega)))
    obtain rfl := nI_ij hj hj' (by omega) (ej.symm.trans ej')
    exact zKM.q34 hR (by omega) hV hno a2 a1 (fun _ => rfl)
  · exact mp_timeOf (d := d + 6) hok hM' h80 h3 (fun j' hj' ej' => absurd z (by rw [ej']; exact zIn_in hj' (by omega))) (fun _ g2 a1 a2 => zKM.ex hR hV hno a2 a1 (by decide))
theorem pr_isLate (hok : zOk X) (hb : b0 + 15000 * 64 + 20000 ≤ zz X) (hk : k < 64) (hD : 400 ≤ D) (hO : zOut o g) {cd0 : Int32} (I : zIw X x m b0 k cd0 g) : zPair X x m o b0 k yX1_isLate wX1_isLate yX3_isLate wX3_isLate [.int v] D g [(RJ9, 1)] KX := by
  obtain ⟨d, rfl⟩ : ∃ d, D = d + 8 := ⟨D - 8, by omega⟩
  obtain ⟨fi, fa, adm, lg, M, P, np, sz, -, hR, hM, hV, hno⟩ := I
  have h80 := hV.1.2.1
  have hm6 := hV.2.2.1.1
  have h3 := hV.1.1
  have h20 := hV.2.2.1.2.1
  refine cs_isLate hok hV hR (by omega) (by omega) (fun j hj ej => ⟨_, rfl, zPar.mk hO (zFe.rf _ _) hM (fun g1' hM' => ?_)⟩) (fun z => ⟨1, List.mem_cons_self, zPar.mk hO (zFe.sz _) hM (fun g1' hM' => ?_)⟩)
  · refine mp_isLate (d := d + 6) hok hM' h80 h3 (fun j' hj' ej' g2 a1 a2 => ?_) (fun z => absurd z (by rw [ej]; exact zIn_in hj (by omega)))
    obtain rfl := nI_ij hj hj' (by omega) (ej.symm.trans ej')
    exact zKM.q34 hR (by omega) hV hno a2 a1 (fun _ => rfl)
  · exact mp_isLate (d := d + 6) hok hM' h80 h3 (fun j' hj' ej' => absurd z (by rw [ej']; exact zIn_in hj' (by omega))) (fun _ g2 a1 a2 => zKM.ex hR hV hno a2 a1 (by decide))
theorem pr_answer (hok : zOk X) (hb : b0 + 15000 * 64 + 20000 ≤ zz X) (hk : k < 64) (hD : 400 ≤ D) (hO : zOut o g) {cd0 : Int32} (I : zIw X x m b0 k cd0 g) : zPair X x m o b0 k yX1_answer wX1_answer yX3_answer wX3_answer [.int v, .int w] D g [(RJ9, 1)] KX := by
  obtain ⟨d, rfl⟩ : ∃ d, D = d + 8 := ⟨D - 8, by omega⟩
  obtain ⟨fi, fa, adm, lg, M, P, np, sz, -, hR, hM, hV, hno⟩ := I
  have h80 := hV.1.2.1
  have hm6 := hV.2.2.1.1
  have h3 := hV.1.1
  have h20 := hV.2.2.1.2.1
  refine cs_answer hok hV hR (by omega) (by omega) (fun i e hi he ei ee => ⟨_, rfl, zPar.mk hO (zFe.rf _ _) hM (fun g1' hM' => ?_)⟩) (fun z => ⟨1, List.mem_cons_self, zPar.mk hO (zFe.sz _) hM (fun g1' hM' => ?_)⟩)
  · refine mp_answer (d := d + 5) hok hM' hm6 h80 h20 h3 (fun i' e' hi' he' ei' ee' g2 a1 a2 => ?_) (fun z => absurd z (fun z => z.elim (by rw [ei]; exact zIn_in hi (by omega)) (by rw [ee]; exact zIn_in he (by omega))))
    obtain rfl := nI_ij hi hi' (by omega) (ei.symm.trans ei')
    obtain rfl := nI_ij he he' (by omega) (ee.symm.trans ee')
    exact zKM.q34 hR (by omega) hV hno a2 a1 (fun _ => rfl)
  · exact mp_answer (d := d + 5) hok hM' hm6 h80 h20 h3 (fun i' e' hi' he' ei' ee' => absurd z (fun z => z.elim (by rw [ei']; exact zIn_in hi' (by omega)) (by rw [ee']; exact zIn_in he' (by omega)))) (fun _ g2 a1 a2 => zKM.ex hR hV hno a2 a1 (by decide))
theorem pr_knownSince (hok : zOk X) (hb : b0 + 15000 * 64 + 20000 ≤ zz X) (hk : k < 64) (hD : 400 ≤ D) (hO : zOut o g) {cd0 : Int32} (I : zIw X x m b0 k cd0 g) : zPair X x m o b0 k yX1_knownSince wX1_knownSince yX3_knownSince wX3_knownSince [.int v, .int w] D g [(RJ9, 1)] KX := by
  obtain ⟨d, rfl⟩ : ∃ d, D = d + 8 := ⟨D - 8, by omega⟩
  obtain ⟨fi, fa, adm, lg, M, P, np, sz, -, hR, hM, hV, hno⟩ := I
  have h80 := hV.1.2.1
  have hm6 := hV.2.2.1.1
  have h3 := hV.1.1
  have h20 := hV.2.2.1.2.1
  refine cs_knownSince hok hV hR (by omega) (by omega) (fun i e hi he ei ee => ⟨_, rfl, zPar.mk hO (zFe.rf _ _) hM (fun g1' hM' => ?_)⟩) (fun z => ⟨1, List.mem_cons_self, zPar.mk hO (zFe.sz _) hM (fun g1' hM' => ?_)⟩)
  · refine mp_knownSince (d := d + 5) hok hM' hm6 h80 h20 h3 (fun i' e' hi' he' ei' ee' g2 a1 a2 => ?_) (fun z => absurd z (fun z => z.elim (by rw [ei]; exact zIn_in hi (by omega)) (by rw [ee]; exact zIn_in he (by omega))))
    obtain rfl := nI_ij hi hi' (by omega) (ei.symm.trans ei')
    obtain rfl := nI_ij he he' (by omega) (ee.symm.trans ee')
    exact zKM.q34 hR (by omega) hV hno a2 a1 (fun _ => rfl)
  · exact mp_knownSince (d := d + 5) hok hM' hm6 h80 h20 h3 (fun i' e' hi' he' ei' ee' => absurd z (fun z => z.elim (by rw [ei']; exact zIn_in hi' (by omega)) (by rw [ee']; exact zIn_in he' (by omega)))) (fun _ g2 a1 a2 => zKM.ex hR hV hno a2 a1 (by decide))
theorem pr_answerAnew (hok : zOk X) (hb : b0 + 15000 * 64 + 20000 ≤ zz X) (hk : k < 64) (hD : 400 ≤ D) (hO : zOut o g) {cd0 : Int32} (I : zIw X x m b0 k cd0 g) : zPair X x m o b0 k yX1_answerAnew wX1_answerAnew yX3_answerAnew wX3_answerAnew [.int v, .int w] D g [(RJ9, 1)] KX := by
  obtain ⟨d, rfl⟩ : ∃ d, D = d + 8 := ⟨D - 8, by omega⟩
  obtain ⟨fi, fa, adm, lg, M, P, np, sz, -, hR, hM, hV, hno⟩ := I
  have h80 := hV.1.2.1
  have hm6 := hV.2.2.1.1
  have h3 := hV.1.1
  have h20 := hV.2.2.1.2.1
  refine cs_answerAnew hok hV hR (by omega) (by omega) (fun i e hi he ei ee g1 c1 c2 => ⟨_, rfl, zPar.mk hO c1 hM (fun g1' hM' => ?_)⟩) (fun z => ⟨1, List.mem_cons_self, zPar.mk hO (zFe.sz _) hM (fun g1' hM' => ?_)⟩)
  · refine mp_answerAnew (d := d + 4) hok hM' hm6 h80 h20 h3 (fun i' e' hi' he' ei' ee' g2 a1 a2 => ?_) (fun z => absurd z (fun z => z.elim (by rw [ei]; exact zIn_in hi (by omega)) (by rw [ee]; exact zIn_in he (by omega))))
    obtain rfl := nI_ij hi hi' (by omega) (ei.symm.trans ei')
    obtain rfl := nI_ij he he' (by omega) (ee.symm.trans ee')
    exact zKM.q34 c2 (by omega) hV hno a2 a1 (fun _ => rfl)
  · exact mp_answerAnew (d := d + 4) hok hM' hm6 h80 h20 h3 (fun i' e' hi' he' ei' ee' => absurd z (fun z => z.elim (by rw [ei']; exact zIn_in hi' (by omega)) (by rw [ee']; exact zIn_in he' (by omega)))) (fun _ g2 a1 a2 => zKM.ex hR hV hno a2 a1 (by decide))
theorem pr_takenBack (hok : zOk X) (hb : b0 + 15000 * 64 + 20000 ≤ zz X) (hk : k < 64) (hD : 400 ≤ D) (hO : zOut o g) {cd0 : Int32} (I : zIw X x m b0 k cd0 g) : zPair X x m o b0 k yX1_takenBack wX1_takenBack yX3_takenBack wX3_takenBack [.int v] D g [(RJ9, 1)] KX := by
  obtain ⟨d, rfl⟩ : ∃ d, D = d + 8 := ⟨D - 8, by omega⟩
  obtain ⟨fi, fa, adm, lg, M, P, np, sz, -, hR, hM, hV, hno⟩ := I
  have h80 := hV.1.2.1
  have hm6 := hV.2.2.1.1
  have h3 := hV.1.1
  have h20 := hV.2.2.1.2.1
  refine cs_takenBack hok hV hR (by omega) (by omega) (fun j hj ej => ⟨_, rfl, zPar.mk hO (zFe.rf _ _) hM (fun g1' hM' => ?_)⟩) (fun z => ⟨1, List.mem_cons_self, zPar.mk hO (zFe.sz _) hM (fun g1' hM' => ?_)⟩)
  · refine mp_takenBack (d := d + 6) hok hM' hm6 h20 (fun j' hj' ej' g2 a1 a2 => ?_) (fun z => absurd z (by rw [ej]; exact zIn_in hj (by omega)))
    obtain rfl := nI_ij hj hj' (by omega) (ej.symm.trans ej')
    exact zKM.q34 hR (by omega) hV hno a2 a1 (fun _ => rfl)
  · exact mp_takenBack (d := d + 6) hok hM' hm6 h20 (fun j' hj' ej' => absurd z (by rw [ej']; exact zIn_in hj' (by omega))) (fun _ g2 a1 a2 => zKM.ex hR hV hno a2 a1 (by decide))
theorem pr_back (hok : zOk X) (hb : b0 + 15000 * 64 + 20000 ≤ zz X) (hk : k < 64) (hD : 400 ≤ D) (hO : zOut o g) {cd0 : Int32} (I : zIw X x m b0 k cd0 g) : zPair X x m o b0 k yX1_back wX1_back yX3_back wX3_back [.int v] D g [(RJ9, 1)] KX := by
  obtain ⟨d, rfl⟩ : ∃ d, D = d + 8 := ⟨D - 8, by omega⟩
  obtain ⟨fi, fa, adm, lg, M, P, np, sz, -, hR, hM, hV, hno⟩ := I
  have h80 := hV.1.2.1
  have hm6 := hV.2.2.1.1
  have h3 := hV.1.1
  have h20 := hV.2.2.1.2.1
  refine cs_back hok hV hR (by omega) (by omega) (fun j hj ej => ⟨_, rfl, zPar.mk hO (zFe.rf _ _) hM (fun g1' hM' => ?_)⟩) (fun z => ⟨1, List.mem_cons_self, zPar.mk hO (zFe.sz _) hM (fun g1' hM' => ?_)⟩)
  · refine mp_back (d := d + 5) hok hM' hV.2.2.1 (fun j' hj' ej' g2 fa' a1 a2 a3 => ?_) (fun z => absurd z (by rw [ej]; exact zIn_in hj (by omega)))
    obtain rfl := nI_ij hj hj' (by omega) (ej.symm.trans ej')
    exact zKM.q hR (by omega) hV hno ⟨fun j _ _ _ h => va_up_ne _ _ h, fun j _ _ h _ => a3 j h⟩ (if_pos rfl) a2 a1 (fun _ => rfl)
  · exact mp_back (d := d + 5) hok hM' hV.2.2.1 (fun j' hj' ej' => absurd z (by rw [ej']; exact zIn_in hj' (by omega))) (fun _ g2 a1 a2 => zKM.ex hR hV hno a2 a1 (by decide))
theorem pr_ahead (hok : zOk X) (hb : b0 + 15000 * 64 + 20000 ≤ zz X) (hk : k < 64) (hD : 400 ≤ D) (hO : zOut o g) {cd0 : Int32} (I : zIw X x m b0 k cd0 g) : zPair X x m o b0 k yX1_ahead wX1_ahead yX3_ahead wX3_ahead [.int v] D g [(RJ9, 1)] KX := by
  obtain ⟨d, rfl⟩ : ∃ d, D = d + 8 := ⟨D - 8, by omega⟩
  obtain ⟨fi, fa, adm, lg, M, P, np, sz, -, hR, hM, hV, hno⟩ := I
  have h80 := hV.1.2.1
  have hm6 := hV.2.2.1.1
  have h3 := hV.1.1
  have h20 := hV.2.2.1.2.1
  refine cs_ahead hok hV hR (by omega) (by omega) (fun j hj ej => ⟨_, rfl, zPar.mk hO (zFe.rf _ _) hM (fun g1' hM' => ?_)⟩) (fun z => ⟨1, List.mem_cons_self, zPar.mk hO (zFe.sz _) hM (fun g1' hM' => ?_)⟩)
  · refine mp_ahead (d := d + 5) hok hM' hV.2.2.1 (fun j' hj' ej' g2 fa' a1 a2 a3 => ?_) (fun z => absurd z (by rw [ej]; exact zIn_in hj (by omega)))
    obtain rfl := nI_ij hj hj' (by omega) (ej.symm.trans ej')
    exact zKM.q hR (by omega) hV hno ⟨fun j _ _ _ h => va_up_ne _ _ h, fun j _ _ h _ => a3 j h⟩ (if_pos rfl) a2 a1 (fun _ => rfl)
  · exact mp_ahead (d := d + 5) hok hM' hV.2.2.1 (fun j' hj' ej' => absurd z (by rw [ej']; exact zIn_in hj' (by omega))) (fun _ g2 a1 a2 => zKM.ex hR hV hno a2 a1 (by decide))
theorem pr_count (hok : zOk X) (hb : b0 + 15000 * 64 + 20000 ≤ zz X) (hk : k < 64) (hD : 400 ≤ D) (hO : zOut o g) {cd0 : Int32} (I : zIw X x m b0 k cd0 g) : zPair X x m o b0 k yX1_count wX1_count yX3_count wX3_count [.int v, .int w, .int u] D g [(RJ12, 1)] KX := by
  obtain ⟨d, rfl⟩ : ∃ d, D = d + 8 := ⟨D - 8, by omega⟩
  obtain ⟨fi, fa, adm, lg, M, P, np, sz, -, hR, hM, hV, hno⟩ := I
  have h80 := hV.1.2.1
  have hm6 := hV.2.2.1.1
  have h3 := hV.1.1
  have h20 := hV.2.2.1.2.1
  refine cs_count hok hV hR (by omega) (by omega) (fun z g1 c1 c2 => ⟨_, rfl, zPar.mk hO c1 hM (fun g1' hM' => ?_)⟩) (fun z => ⟨1, List.mem_cons_self, zPar.mk hO (zFe.sz _) hM (fun g1' hM' => ?_)⟩)
  · exact mp_count (d := d + 5) hok hM' h80 h3 (fun _ g2 a1 a2 => zKM.q34 c2 (by omega) hV hno a2 a1 (fun _ => rfl)) (fun z' => absurd z (by rw [z']; decide))
  · exact mp_count (d := d + 5) hok hM' h80 h3 (fun z' => absurd z (by rw [z']; decide)) (fun _ g2 a1 a2 => zKM.ex hR hV hno a2 a1 (by decide))
theorem pr_greatest (hok : zOk X) (hb : b0 + 15000 * 64 + 20000 ≤ zz X) (hk : k < 64) (hD : 400 ≤ D) (hO : zOut o g) {cd0 : Int32} (I : zIw X x m b0 k cd0 g) : zPair X x m o b0 k yX1_greatest wX1_greatest yX3_greatest wX3_greatest [.int v, .int w, .int u] D g [(RJ12, 1)] KX := by
  obtain ⟨d, rfl⟩ : ∃ d, D = d + 8 := ⟨D - 8, by omega⟩
  obtain ⟨fi, fa, adm, lg, M, P, np, sz, -, hR, hM, hV, hno⟩ := I
  have h80 := hV.1.2.1
  have hm6 := hV.2.2.1.1
  have h3 := hV.1.1
  have h20 := hV.2.2.1.2.1
  refine cs_greatest hok hV hR (by omega) (by omega) (fun z g1 c1 c2 => ⟨_, rfl, zPar.mk hO c1 hM (fun g1' hM' => ?_)⟩) (fun z => ⟨1, List.mem_cons_self, zPar.mk hO (zFe.sz _) hM (fun g1' hM' => ?_)⟩)
  · exact mp_greatest (d := d + 5) hok hM' h80 h3 (fun _ g2 a1 a2 => zKM.q34 c2 (by omega) hV hno a2 a1 (fun _ => rfl)) (fun z' => absurd z (by rw [z']; decide))
  · exact mp_greatest (d := d + 5) hok hM' h80 h3 (fun z' => absurd z (by rw [z']; decide)) (fun _ g2 a1 a2 => zKM.ex hR hV hno a2 a1 (by decide))
theorem pr_greatestByAll (hok : zOk X) (hb : b0 + 15000 * 64 + 20000 ≤ zz X) (hk : k < 64) (hD : 400 ≤ D) (hO : zOut o g) {cd0 : Int32} (I : zIw X x m b0 k cd0 g) : zPair X x m o b0 k yX1_greatestByAll wX1_greatestByAll yX3_greatestByAll wX3_greatestByAll [.int v, .int w, .int u] D g [(RJ12, 1)] KX := by
  obtain ⟨d, rfl⟩ : ∃ d, D = d + 8 := ⟨D - 8, by omega⟩
  obtain ⟨fi, fa, adm, lg, M, P, np, sz, -, hR, hM, hV, hno⟩ := I
  have h80 := hV.1.2.1
  have hm6 := hV.2.2.1.1
  have h3 := hV.1.1
  have h20 := hV.2.2.1.2.1
  refine cs_greatestByAll hok hV hR (by omega) (by omega) (fun z g1 c1 c2 => ⟨_, rfl, zPar.mk hO c1 hM (fun g1' hM' => ?_)⟩) (fun z => ⟨1, List.mem_cons_self, zPar.mk hO (zFe.sz _) hM (fun g1' hM' => ?_)⟩)
  · exact mp_greatestByAll (d := d + 4) hok hM' h80 h3 (fun _ g2 a1 a2 => zKM.q34 c2 (by omega) hV hno a2 a1 (fun _ => rfl)) (fun z' => absurd z (by rw [z']; decide))
  · exact mp_greatestByAll (d := d + 4) hok hM' h80 h3 (fun z' => absurd z (by rw [z']; decide)) (fun _ g2 a1 a2 => zKM.ex hR hV hno a2 a1 (by decide))
theorem pr_answers (hok : zOk X) (hb : b0 + 15000 * 64 + 20000 ≤ zz X) (hk : k < 64) (hD : 400 ≤ D) (hO : zOut o g) {cd0 : Int32} (I : zIw X x m b0 k cd0 g) : zPair X x m o b0 k yX1_answers wX1_answers yX3_answers wX3_answers [.int v, .int w] D g [(RJ9, 1), (RJ12, 2)] KX := by
  obtain ⟨d, rfl⟩ : ∃ d, D = d + 8 := ⟨D - 8, by omega⟩
  obtain ⟨fi, fa, adm, lg, M, P, np, sz, -, hR, hM, hV, hno⟩ := I
  have h80 := hV.1.2.1
  have hm6 := hV.2.2.1.1
  have h3 := hV.1.1
  have h20 := hV.2.2.1.2.1
  have zt : ∀ i : Nat, i < M → v = nI i → ¬ zIn w 0 2 = 0 → zth (zIn v 0 (nI M - 1)) (zIn w 0 2) 1 = 0 := fun i hi ei hw => by
    have h1 : ¬ zIn v 0 (nI M - 1) = 0 := by rw [ei]; exact zIn_in hi (by omega)
    unfold zth
    rw [if_neg h1, if_neg hw, if_neg (by decide)]
  refine cs_answers hok hV hR (by omega) (by omega) (fun i hi ei hw g1 c1 c2 => ⟨_, rfl, zPar.mk hO c1 hM (fun g1' hM' => ?_)⟩) (fun cd s hc hs => ⟨cd, by rcases hs with ⟨rfl, rfl⟩ | ⟨rfl, rfl⟩ <;> simp, zPar.mk hO (zFe.sz _) hM (fun g1' hM' => ?_)⟩)
  · refine mp_answers (d := d + 6) hok hM' hm6 h80 h20 h3 (fun i' hi' ei' _ g2 a1 a2 => ?_) (fun z => absurd (zt i hi ei hw) z)
    obtain rfl := nI_ij hi hi' (by omega) (ei.symm.trans ei')
    exact zKM.q34 c2 (by omega) hV hno a2 a1 (fun _ => rfl)
  · have hc0 : cd ≠ 0 := by rcases hs with ⟨rfl, -⟩ | ⟨rfl, -⟩ <;> decide
    refine mp_answers (d := d + 6) hok hM' hm6 h80 h20 h3 (fun i' hi' ei' hw' => absurd (hc.symm.trans (zt i' hi' ei' hw')) hc0) (fun _ g2 a1 a2 => ?_)
    rw [hc] at a1
    exact zKM.ex hR hV hno a2 a1 hc0
theorem pr_setPatience (hok : zOk X) (hb : b0 + 15000 * 64 + 20000 ≤ zz X) (hk : k < 64) (hD : 400 ≤ D) (hO : zOut o g) {cd0 : Int32} (I : zIw X x m b0 k cd0 g) : zPair X x m o b0 k yX1_setPatience wX1_setPatience yX3_setPatience wX3_setPatience [.int v] D g [(RJ12, 1)] KX := by
  obtain ⟨d, rfl⟩ : ∃ d, D = d + 8 := ⟨D - 8, by omega⟩
  obtain ⟨fi, fa, adm, lg, M, P, np, sz, -, hR, hM, hV, hno⟩ := I
  have h80 := hV.1.2.1
  have hm6 := hV.2.2.1.1
  have h3 := hV.1.1
  have h20 := hV.2.2.1.2.1
  refine cs_setPatience hok hV hR (by omega) (by omega) (fun z g1 c1 c2 c3 => ⟨_, rfl, zPar.mk hO c1 hM (fun g1' hM' => ?_)⟩) (fun z => ⟨1, List.mem_cons_self, zPar.mk hO (zFe.sz _) hM (fun g1' hM' => ?_)⟩)
  · exact mp_setPatience (d := d + 7) hok hM' (fun _ g2 a1 a2 => ⟨_, rfl, fun _ => rfl, _, _, _, _, _, _, _, (va_up_ne _ _ (by decide)).trans (if_pos rfl), a2, a1, c2.mono (by omega), c3, hno⟩) (fun z' => absurd z' z)
  · exact mp_setPatience (d := d + 7) hok hM' (fun z' => absurd z z') (fun _ g2 a1 a2 => zKM.ex hR hV hno a2 a1 (by decide))
theorem pr_setOffset (hok : zOk X) (hb : b0 + 15000 * 64 + 20000 ≤ zz X) (hk : k < 64) (hD : 400 ≤ D) (hO : zOut o g) {cd0 : Int32} (I : zIw X x m b0 k cd0 g) : zPair X x m o b0 k yX1_setOffset wX1_setOffset yX3_setOffset wX3_setOffset [.int v, .int w] D g [(RJ9, 1), (RJ12, 2)] KX := by
  obtain ⟨d, rfl⟩ : ∃ d, D = d + 8 := ⟨D - 8, by omega⟩
  obtain ⟨fi, fa, adm, lg, M, P, np, sz, -, hR, hM, hV, hno⟩ := I
  have h80 := hV.1.2.1
  have hm6 := hV.2.2.1.1
  have h3 := hV.1.1
  have h20 := hV.2.2.1.2.1
  refine cs_setOffset hok hV hR (by omega) (by omega) (fun z g1 c1 c2 c3 => ⟨_, rfl, zPar.mk hO c1 hM (fun g1' hM' => ?_)⟩) (fun cd s hc hs => ⟨cd, by rcases hs with ⟨rfl, rfl⟩ | ⟨rfl, rfl⟩ <;> simp, zPar.mk hO (zFe.sz _) hM (fun g1' hM' => ?_)⟩)
  · exact mp_setOffset (d := d + 6) hok hM' (fun _ g2 a1 a2 => ⟨_, rfl, fun _ => rfl, _, _, _, _, _, _, _, if_pos rfl, a2, a1, c2.mono (by omega), c3, zno_cg hno (fun _ _ => by rw [va_up_ne _ _ (by decide)]) (fun _ _ => by rw [va_up_ne _ _ (by decide)])⟩) (fun z' => absurd z z')
  · have hc0 : cd ≠ 0 := by rcases hs with ⟨rfl, -⟩ | ⟨rfl, -⟩ <;> decide
    refine mp_setOffset (d := d + 6) hok hM' (fun z' => absurd (hc.symm.trans z') hc0) (fun _ g2 a1 a2 => ?_)
    rw [hc] at a1
    exact zKM.ex hR hV hno a2 a1 hc0
theorem zev_34 {fi fi' : Nat → Int32} {fa fa' : Nat → Nat → Int32} {lg : List Nat} {M : Nat} {np : Nat → Nat} {nd wh kd ix vl : Int32} (h : zev fi fa lg M np nd wh kd ix vl fi' fa') : fi' 34 = 0 := by
  obtain ⟨fi1, fa1, ⟨z1, -, -⟩, k1, -⟩ := h
  rw [k1 34 (by decide) (by decide) (by decide), z1]
  unfold zc1
  rw [va_up_ne _ _ (by decide), va_up_ne _ _ (by decide)]
  exact if_pos rfl
theorem pr_event (hok : zOk X) (hb : b0 + 15000 * 64 + 20000 ≤ zz X) (hk : k < 64) (hD : 400 ≤ D) (hO : zOut o g) {cd0 : Int32} (I : zIw X x m b0 k cd0 g) : zPair X x m o b0 k yX1_event wX1_event yX3_event wX3_event [.int v, .int w, .int u, .int q, .int r] D g [(RJ9, 1), (RJ12, 2), (RJ13, 3)] KX := by
  obtain ⟨d, rfl⟩ : ∃ d, D = d + 8 := ⟨D - 8, by omega⟩
  obtain ⟨fi, fa, adm, lg, M, P, np, sz, -, hR, hM, hV, hno⟩ := I
  have h80 := hV.1.2.1
  have hm6 := hV.2.2.1.1
  have h3 := hV.1.1
  have h20 := hV.2.2.1.2.1
  refine cs_event hok hV hR (by omega) (by omega) (fun z h79 a ha ea g1 c1 c2 => ⟨_, rfl, zPar.mk hO c1 hM (fun g1' hM' => ?_)⟩) (fun cd s hc hs => ⟨cd, by rcases hs with ⟨rfl, rfl⟩ | ⟨rfl, rfl⟩ | ⟨rfl, rfl⟩ <;> simp, zPar.mk hO (zFe.sz _) hM (fun g1' hM' => ?_)⟩)
  · refine mp_event (d := d + 1) hok hM' hV.1 hV.2.1 hV.2.2.1 (fun _ _ a' ha' ea' g2 fi' fa' a1 a2 a3 => ?_) (fun z' => absurd z z')
    obtain rfl := nI_ij ha ha' (by omega) (ea.symm.trans ea')
    obtain ⟨e1, e2⟩ := c2 fi' fa' a3
    exact ⟨_, rfl, fun _ => rfl, _, _, _, _, _, _, _, zev_34 a3, a2, a1, e1.mono (by omega), e2, zno_ev hV.2.2.2.2.1 hV.1.2.2.2.1 hno a3⟩
  · have hc0 : cd ≠ 0 := by rcases hs with ⟨rfl, -⟩ | ⟨rfl, -⟩ | ⟨rfl, -⟩ <;> decide
    refine mp_event (d := d + 1) hok hM' hV.1 hV.2.1 hV.2.2.1 (fun z' => absurd (hc.symm.trans z') hc0) (fun _ g2 a1 a2 => ?_)
    rw [hc] at a1
    exact zKM.ex hR hV hno a2 a1 hc0
theorem pr_offer (hok : zOk X) (hb : b0 + 15000 * 64 + 20000 ≤ zz X) (hk : k < 64) (hD : 400 ≤ D) (hO : zOut o g) {cd0 : Int32} (I : zIw X x m b0 k cd0 g) : zPair X x m o b0 k yX1_offer wX1_offer yX3_offer wX3_offer [.int v, .int w, .int u, .int q, .int r] D g [(RJ9, 1), (RJ12, 2), (RJ13, 3)] KX := by
  obtain ⟨d, rfl⟩ : ∃ d, D = d + 8 := ⟨D - 8, by omega⟩
  obtain ⟨fi, fa, adm, lg, M, P, np, sz, -, hR, hM, hV, hno⟩ := I
  have h80 := hV.1.2.1
  have hm6 := hV.2.2.1.1
  have h3 := hV.1.1
  have h20 := hV.2.2.1.2.1
  refine cs_offer hok hV hR (by omega) (by omega) (fun z h79 a ha ea hg g1 c1 c2 => ⟨_, rfl, zPar.mk hO c1 hM (fun g1' hM' => ?_)⟩) (fun z h79 a ha ea hg g1 c1 c2 => ⟨_, rfl, zPar.mk hO c1 hM (fun g1' hM' => ?_)⟩) (fun cd s hc hs => ⟨cd, by rcases hs with ⟨rfl, rfl⟩ | ⟨rfl, rfl⟩ | ⟨rfl, rfl⟩ <;> simp, zPar.mk hO (zFe.sz _) hM (fun g1' hM' => ?_)⟩)
  · refine mp_offer (d := d + 1) hok hM' hV.1 hV.2.1 hV.2.2.1 (fun _ _ a' ha' ea' fi1 fa1 _ _ g2 fi' fa' a1 a2 a3 => ?_) (fun _ _ a' ha' ea' fi1 fa1 hz hg' => ?_) (fun z' => absurd z z')
    · obtain rfl := nI_ij ha ha' (by omega) (ea.symm.trans ea')
      obtain ⟨e1, e2⟩ := c2 fi' fa' a3
      exact ⟨_, rfl, fun _ => rfl, _, _, _, _, _, _, _, zev_34 a3, a2, a1, e1.mono (by omega), e2, zno_ev hV.2.2.2.2.1 hV.1.2.2.2.1 hno a3⟩
    · obtain rfl := nI_ij ha ha' (by omega) (ea.symm.trans ea')
      rw [hg fi1 fa1 hz] at hg'
      cases hg'
  · refine mp_offer (d := d + 1) hok hM' hV.1 hV.2.1 hV.2.2.1 (fun _ _ a' ha' ea' fi1 fa1 hz hg' => ?_) (fun _ _ a' ha' ea' fi1 fa1 _ _ g2 fi' fa' a1 a2 a3 => ?_) (fun z' => absurd z z')
    · obtain rfl := nI_ij ha ha' (by omega) (ea.symm.trans ea')
      rw [hg fi1 fa1 hz] at hg'
      cases hg'
    · obtain ⟨e1, e2⟩ := c2 fi' fa' a3
      have hlv := hV.1.2.2.2.1
      refine ⟨_, rfl, fun _ => rfl, _, _, _, _, _, _, _, a3.2.2.1, a2, a1, e1.mono (by omega), e2, zno_cg hno (fun y hy => a3.2.2.2.2.1 7 (by decide) (by decide) y (hlv y hy)) (fun y hy => a3.2.2.2.2.1 6 (by decide) (by decide) y (hlv y hy))⟩
  · have hc0 : cd ≠ 0 := by rcases hs with ⟨rfl, -⟩ | ⟨rfl, -⟩ | ⟨rfl, -⟩ <;> decide
    refine mp_offer (d := d + 1) hok hM' hV.1 hV.2.1 hV.2.2.1 (fun z' => absurd (hc.symm.trans z') hc0) (fun z' => absurd (hc.symm.trans z') hc0) (fun _ g2 a1 a2 => ?_)
    rw [hc] at a1
    exact zKM.ex hR hV hno a2 a1 hc0
theorem pr_close (hok : zOk X) (hb : b0 + 15000 * 64 + 20000 ≤ zz X) (hk : k < 64) (hD : 400 ≤ D) (hO : zOut o g) {cd0 : Int32} (I : zIw X x m b0 k cd0 g) : zPair X x m o b0 k yX1_close wX1_close yX3_close wX3_close [] D g [(RJ13, 1)] KX := by
  obtain ⟨d, rfl⟩ : ∃ d, D = d + 8 := ⟨D - 8, by omega⟩
  obtain ⟨fi, fa, adm, lg, M, P, np, sz, -, hR, hM, hV, hno⟩ := I
  have h80 := hV.1.2.1
  have hm6 := hV.2.2.1.1
  have h3 := hV.1.1
  have h20 := hV.2.2.1.2.1
  refine cs_close hok hV hR (by omega) (by omega) (fun z g1 c1 c2 => ⟨_, rfl, zPar.mk hO c1 hM (fun g1' hM' => ?_)⟩) (fun z => ⟨1, List.mem_cons_self, zPar.mk hO (zFe.sz _) hM (fun g1' hM' => ?_)⟩)
  · refine mp_close (d := d + 1) hok hM' hV.1 hV.2.1 hV.2.2.1 (fun _ g2 fi' fa' a1 a2 a3 => ?_) (fun z' => absurd z z')
    obtain ⟨e1, e2⟩ := c2 fi' fa' a3
    refine ⟨_, rfl, fun _ => rfl, _, _, _, _, _, _, _, ?_, a2, a1, e1.mono (by omega), e2, zno_cg hno (fun _ _ => ?_) (fun _ _ => ?_)⟩
    · rw [a3.1 34 (by decide) (by decide) (by decide), va_up_ne _ _ (by decide)]
      exact if_pos rfl
    · rw [a3.2.1 7 (by decide) (by decide) (by decide) (by decide) (by decide) (by decide) (by decide)]
    · rw [a3.2.1 6 (by decide) (by decide) (by decide) (by decide) (by decide) (by decide) (by decide)]
  · exact mp_close (d := d + 1) hok hM' hV.1 hV.2.1 hV.2.2.1 (fun z' => absurd z' z) (fun _ g2 a1 a2 => zKM.ex hR hV hno a2 a1 (by decide))
end PAIRS
