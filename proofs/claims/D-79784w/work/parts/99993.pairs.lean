set_option maxRecDepth 100000
/-! the pairs (printed by gen/mkp.py) -/
section PAIRS
variable {X : zX} {x m o b0 k D : Nat} {g : zG} {KX : String → zG → Prop} {v w u q r : Int32}
theorem pr_timeOf (hok : zOk X) (hb : b0 + 15000 * 64 + 20000 ≤ zz X) (hk : k < 64) (hD : 400 ≤ D) (hO : zOut o g) {cd0 : Int32} (I : zIw X x m b0 k cd0 g) : zPair X x m o b0 k yX1_timeOf wX1_timeOf yX3_timeOf wX3_timeOf [.int v] D (D + 1) g [(RJ9, 1)] KX := by
  obtain ⟨d, rfl⟩ : ∃ d, D = d + 8 := ⟨D - 8, by omega⟩
  obtain ⟨fi, fa, adm, lg, M, P, np, sz, -, hR, hM, hV, hno⟩ := I
  have h80 := hV.1.2.1
  have hm6 := hV.2.2.1.1
  have h3 := hV.1.1
  have h20 := hV.2.2.1.2.1
  refine cs_timeOf hok hV hR (by omega) (by omega) (fun j hj ej => ⟨_, rfl, zPar.mk hO (zFe.rf _ _) hM (fun g1' hM' => ?_)⟩) (fun z => ⟨1, List.mem_cons_self, zPar.mk hO (zFe.sz _) hM (fun g1' hM' => ?_)⟩)
  · refine mp_timeOf (d := d + 7) hok hM' h80 h3 (fun j' hj' ej' g2 a1 a2 => ?_) (fun z => absurd z (by rw [ej]; exact zIn_in hj (by omega)))
    obtain rfl := nI_ij hj hj' (by omega) (ej.symm.trans ej')
    exact zKM.q34 hR (by omega) hV hno a2 a1 (fun _ => rfl)
  · exact mp_timeOf (d := d + 7) hok hM' h80 h3 (fun j' hj' ej' => absurd z (by rw [ej']; exact zIn_in hj' (by omega))) (fun _ g2 a1 a2 => zKM.ex hR hV hno a2 a1 (by decide))
theorem pr_isLate (hok : zOk X) (hb : b0 + 15000 * 64 + 20000 ≤ zz X) (hk : k < 64) (hD : 400 ≤ D) (hO : zOut o g) {cd0 : Int32} (I : zIw X x m b0 k cd0 g) : zCal X D yX1_isLate wX1_isLate (.ref x :: [.int v]) g (fun r g1 => ∃ u : Int32, r = some (.int u) ∧ zbo u ∧ zPar X x m o b0 k yX3_isLate wX3_isLate [.int v] (D + 1) KX 0 u g1) (fun s g1 => ∃ cd : Int32, (s, cd) ∈ [(RJ9, (1 : Int32))] ∧ zPar X x m o b0 k yX3_isLate wX3_isLate [.int v] (D + 1) KX cd 0 g1) := by
  obtain ⟨d, rfl⟩ : ∃ d, D = d + 8 := ⟨D - 8, by omega⟩
  obtain ⟨fi, fa, adm, lg, M, P, np, sz, -, hR, hM, hV, hno⟩ := I
  have h80 := hV.1.2.1
  have hm6 := hV.2.2.1.1
  have h3 := hV.1.1
  have h20 := hV.2.2.1.2.1
  refine cs_isLate hok hV hR (by omega) (by omega) (fun j hj ej => ⟨_, rfl, by split; exact Or.inl rfl; exact Or.inr rfl, zPar.mk hO (zFe.rf _ _) hM (fun g1' hM' => ?_)⟩) (fun z => ⟨1, List.mem_cons_self, zPar.mk hO (zFe.sz _) hM (fun g1' hM' => ?_)⟩)
  · refine mp_isLate (d := d + 7) hok hM' h80 h3 (fun j' hj' ej' g2 a1 a2 => ?_) (fun z => absurd z (by rw [ej]; exact zIn_in hj (by omega)))
    obtain rfl := nI_ij hj hj' (by omega) (ej.symm.trans ej')
    exact zKM.q34 hR (by omega) hV hno a2 a1 (fun _ => rfl)
  · exact mp_isLate (d := d + 7) hok hM' h80 h3 (fun j' hj' ej' => absurd z (by rw [ej']; exact zIn_in hj' (by omega))) (fun _ g2 a1 a2 => zKM.ex hR hV hno a2 a1 (by decide))
theorem pr_answer (hok : zOk X) (hb : b0 + 15000 * 64 + 20000 ≤ zz X) (hk : k < 64) (hD : 400 ≤ D) (hO : zOut o g) {cd0 : Int32} (I : zIw X x m b0 k cd0 g) : zPair X x m o b0 k yX1_answer wX1_answer yX3_answer wX3_answer [.int v, .int w] D (D + 1) g [(RJ9, 1)] KX := by
  obtain ⟨d, rfl⟩ : ∃ d, D = d + 8 := ⟨D - 8, by omega⟩
  obtain ⟨fi, fa, adm, lg, M, P, np, sz, -, hR, hM, hV, hno⟩ := I
  have h80 := hV.1.2.1
  have hm6 := hV.2.2.1.1
  have h3 := hV.1.1
  have h20 := hV.2.2.1.2.1
  refine cs_answer hok hV hR (by omega) (by omega) (fun i e hi he ei ee => ⟨_, rfl, zPar.mk hO (zFe.rf _ _) hM (fun g1' hM' => ?_)⟩) (fun z => ⟨1, List.mem_cons_self, zPar.mk hO (zFe.sz _) hM (fun g1' hM' => ?_)⟩)
  · refine mp_answer (d := d + 1 + 5) hok hM' hm6 h80 h20 h3 (fun i' e' hi' he' ei' ee' g2 a1 a2 => ?_) (fun z => absurd z (fun z => z.elim (by rw [ei]; exact zIn_in hi (by omega)) (by rw [ee]; exact zIn_in he (by omega))))
    obtain rfl := nI_ij hi hi' (by omega) (ei.symm.trans ei')
    obtain rfl := nI_ij he he' (by omega) (ee.symm.trans ee')
    exact zKM.q34 hR (by omega) hV hno a2 a1 (fun _ => rfl)
  · exact mp_answer (d := d + 1 + 5) hok hM' hm6 h80 h20 h3 (fun i' e' hi' he' ei' ee' => absurd z (fun z => z.elim (by rw [ei']; exact zIn_in hi' (by omega)) (by rw [ee']; exact zIn_in he' (by omega)))) (fun _ g2 a1 a2 => zKM.ex hR hV hno a2 a1 (by decide))
theorem pr_knownSince (hok : zOk X) (hb : b0 + 15000 * 64 + 20000 ≤ zz X) (hk : k < 64) (hD : 400 ≤ D) (hO : zOut o g) {cd0 : Int32} (I : zIw X x m b0 k cd0 g) : zPair X x m o b0 k yX1_knownSince wX1_knownSince yX3_knownSince wX3_knownSince [.int v, .int w] D (D + 1) g [(RJ9, 1)] KX := by
  obtain ⟨d, rfl⟩ : ∃ d, D = d + 8 := ⟨D - 8, by omega⟩
  obtain ⟨fi, fa, adm, lg, M, P, np, sz, -, hR, hM, hV, hno⟩ := I
  have h80 := hV.1.2.1
  have hm6 := hV.2.2.1.1
  have h3 := hV.1.1
  have h20 := hV.2.2.1.2.1
  refine cs_knownSince hok hV hR (by omega) (by omega) (fun i e hi he ei ee => ⟨_, rfl, zPar.mk hO (zFe.rf _ _) hM (fun g1' hM' => ?_)⟩) (fun z => ⟨1, List.mem_cons_self, zPar.mk hO (zFe.sz _) hM (fun g1' hM' => ?_)⟩)
  · refine mp_knownSince (d := d + 1 + 5) hok hM' hm6 h80 h20 h3 (fun i' e' hi' he' ei' ee' g2 a1 a2 => ?_) (fun z => absurd z (fun z => z.elim (by rw [ei]; exact zIn_in hi (by omega)) (by rw [ee]; exact zIn_in he (by omega))))
    obtain rfl := nI_ij hi hi' (by omega) (ei.symm.trans ei')
    obtain rfl := nI_ij he he' (by omega) (ee.symm.trans ee')
    exact zKM.q34 hR (by omega) hV hno a2 a1 (fun _ => rfl)
  · exact mp_knownSince (d := d + 1 + 5) hok hM' hm6 h80 h20 h3 (fun i' e' hi' he' ei' ee' => absurd z (fun z => z.elim (by rw [ei']; exact zIn_in hi' (by omega)) (by rw [ee']; exact zIn_in he' (by omega)))) (fun _ g2 a1 a2 => zKM.ex hR hV hno a2 a1 (by decide))
theorem pr_answerAnew (hok : zOk X) (hb : b0 + 15000 * 64 + 20000 ≤ zz X) (hk : k < 64) (hD : 400 ≤ D) (hO : zOut o g) {cd0 : Int32} (I : zIw X x m b0 k cd0 g) : zPair X x m o b0 k yX1_answerAnew wX1_answerAnew yX3_answerAnew wX3_answerAnew [.int v, .int w] D (D + 1) g [(RJ9, 1)] KX := by
  obtain ⟨d, rfl⟩ : ∃ d, D = d + 8 := ⟨D - 8, by omega⟩
  obtain ⟨fi, fa, adm, lg, M, P, np, sz, -, hR, hM, hV, hno⟩ := I
  have h80 := hV.1.2.1
  have hm6 := hV.2.2.1.1
  have h3 := hV.1.1
  have h20 := hV.2.2.1.2.1
  refine cs_answerAnew hok hV hR (by omega) (by omega) (fun i e hi he ei ee g1 c1 c2 => ⟨_, rfl, zPar.mk hO c1 hM (fun g1' hM' => ?_)⟩) (fun z => ⟨1, List.mem_cons_self, zPar.mk hO (zFe.sz _) hM (fun g1' hM' => ?_)⟩)
  · refine mp_answerAnew (d := d + 1 + 4) hok hM' hm6 h80 h20 h3 (fun i' e' hi' he' ei' ee' g2 a1 a2 => ?_) (fun z => absurd z (fun z => z.elim (by rw [ei]; exact zIn_in hi (by omega)) (by rw [ee]; exact zIn_in he (by omega))))
    obtain rfl := nI_ij hi hi' (by omega) (ei.symm.trans ei')
    obtain rfl := nI_ij he he' (by omega) (ee.symm.trans ee')
    exact zKM.q34 c2 (by omega) hV hno a2 a1 (fun _ => rfl)
  · exact mp_answerAnew (d := d + 1 + 4) hok hM' hm6 h80 h20 h3 (fun i' e' hi' he' ei' ee' => absurd z (fun z => z.elim (by rw [ei']; exact zIn_in hi' (by omega)) (by rw [ee']; exact zIn_in he' (by omega)))) (fun _ g2 a1 a2 => zKM.ex hR hV hno a2 a1 (by decide))
theorem pr_takenBack (hok : zOk X) (hb : b0 + 15000 * 64 + 20000 ≤ zz X) (hk : k < 64) (hD : 400 ≤ D) (hO : zOut o g) {cd0 : Int32} (I : zIw X x m b0 k cd0 g) : zPair X x m o b0 k yX1_takenBack wX1_takenBack yX3_takenBack wX3_takenBack [.int v] D (D + 1) g [(RJ9, 1)] KX := by
  obtain ⟨d, rfl⟩ : ∃ d, D = d + 8 := ⟨D - 8, by omega⟩
  obtain ⟨fi, fa, adm, lg, M, P, np, sz, -, hR, hM, hV, hno⟩ := I
  have h80 := hV.1.2.1
  have hm6 := hV.2.2.1.1
  have h3 := hV.1.1
  have h20 := hV.2.2.1.2.1
  refine cs_takenBack hok hV hR (by omega) (by omega) (fun j hj ej => ⟨_, rfl, zPar.mk hO (zFe.rf _ _) hM (fun g1' hM' => ?_)⟩) (fun z => ⟨1, List.mem_cons_self, zPar.mk hO (zFe.sz _) hM (fun g1' hM' => ?_)⟩)
  · refine mp_takenBack (d := d + 7) hok hM' hm6 h20 (fun j' hj' ej' g2 a1 a2 => ?_) (fun z => absurd z (by rw [ej]; exact zIn_in hj (by omega)))
    obtain rfl := nI_ij hj hj' (by omega) (ej.symm.trans ej')
    exact zKM.q34 hR (by omega) hV hno a2 a1 (fun _ => rfl)
  · exact mp_takenBack (d := d + 7) hok hM' hm6 h20 (fun j' hj' ej' => absurd z (by rw [ej']; exact zIn_in hj' (by omega))) (fun _ g2 a1 a2 => zKM.ex hR hV hno a2 a1 (by decide))
theorem pr_back (hok : zOk X) (hb : b0 + 15000 * 64 + 20000 ≤ zz X) (hk : k < 64) (hD : 400 ≤ D) (hO : zOut o g) {cd0 : Int32} (I : zIw X x m b0 k cd0 g) : zPair X x m o b0 k yX1_back wX1_back yX3_back wX3_back [.int v] D (D + 1) g [(RJ9, 1)] KX := by
  obtain ⟨d, rfl⟩ : ∃ d, D = d + 8 := ⟨D - 8, by omega⟩
  obtain ⟨fi, fa, adm, lg, M, P, np, sz, -, hR, hM, hV, hno⟩ := I
  have h80 := hV.1.2.1
  have hm6 := hV.2.2.1.1
  have h3 := hV.1.1
  have h20 := hV.2.2.1.2.1
  refine cs_back hok hV hR (by omega) (by omega) (fun j hj ej => ⟨_, rfl, zPar.mk hO (zFe.rf _ _) hM (fun g1' hM' => ?_)⟩) (fun z => ⟨1, List.mem_cons_self, zPar.mk hO (zFe.sz _) hM (fun g1' hM' => ?_)⟩)
  · refine mp_back (d := d + 6) hok hM' hV.2.2.1 (fun j' hj' ej' g2 fa' a1 a2 a3 => ?_) (fun z => absurd z (by rw [ej]; exact zIn_in hj (by omega)))
    obtain rfl := nI_ij hj hj' (by omega) (ej.symm.trans ej')
    exact zKM.q hR (by omega) hV hno ⟨fun j _ _ _ h => va_up_ne _ _ h, fun j _ _ h _ => a3 j h⟩ (if_pos rfl) a2 a1 (fun _ => rfl)
  · exact mp_back (d := d + 6) hok hM' hV.2.2.1 (fun j' hj' ej' => absurd z (by rw [ej']; exact zIn_in hj' (by omega))) (fun _ g2 a1 a2 => zKM.ex hR hV hno a2 a1 (by decide))
theorem pr_ahead (hok : zOk X) (hb : b0 + 15000 * 64 + 20000 ≤ zz X) (hk : k < 64) (hD : 400 ≤ D) (hO : zOut o g) {cd0 : Int32} (I : zIw X x m b0 k cd0 g) : zPair X x m o b0 k yX1_ahead wX1_ahead yX3_ahead wX3_ahead [.int v] D (D + 1) g [(RJ9, 1)] KX := by
  obtain ⟨d, rfl⟩ : ∃ d, D = d + 8 := ⟨D - 8, by omega⟩
  obtain ⟨fi, fa, adm, lg, M, P, np, sz, -, hR, hM, hV, hno⟩ := I
  have h80 := hV.1.2.1
  have hm6 := hV.2.2.1.1
  have h3 := hV.1.1
  have h20 := hV.2.2.1.2.1
  refine cs_ahead hok hV hR (by omega) (by omega) (fun j hj ej => ⟨_, rfl, zPar.mk hO (zFe.rf _ _) hM (fun g1' hM' => ?_)⟩) (fun z => ⟨1, List.mem_cons_self, zPar.mk hO (zFe.sz _) hM (fun g1' hM' => ?_)⟩)
  · refine mp_ahead (d := d + 6) hok hM' hV.2.2.1 (fun j' hj' ej' g2 fa' a1 a2 a3 => ?_) (fun z => absurd z (by rw [ej]; exact zIn_in hj (by omega)))
    obtain rfl := nI_ij hj hj' (by omega) (ej.symm.trans ej')
    exact zKM.q hR (by omega) hV hno ⟨fun j _ _ _ h => va_up_ne _ _ h, fun j _ _ h _ => a3 j h⟩ (if_pos rfl) a2 a1 (fun _ => rfl)
  · exact mp_ahead (d := d + 6) hok hM' hV.2.2.1 (fun j' hj' ej' => absurd z (by rw [ej']; exact zIn_in hj' (by omega))) (fun _ g2 a1 a2 => zKM.ex hR hV hno a2 a1 (by decide))
theorem pr_count (hok : zOk X) (hb : b0 + 15000 * 64 + 20000 ≤ zz X) (hk : k < 64) (hD : 400 ≤ D) (hO : zOut o g) {cd0 : Int32} (I : zIw X x m b0 k cd0 g) : zPair X x m o b0 k yX1_count wX1_count yX3_count wX3_count [.int v, .int w, .int u] D (D + 1) g [(RJ12, 1)] KX := by
  obtain ⟨d, rfl⟩ : ∃ d, D = d + 8 := ⟨D - 8, by omega⟩
  obtain ⟨fi, fa, adm, lg, M, P, np, sz, -, hR, hM, hV, hno⟩ := I
  have h80 := hV.1.2.1
  have hm6 := hV.2.2.1.1
  have h3 := hV.1.1
  have h20 := hV.2.2.1.2.1
  refine cs_count hok hV hR (by omega) (by omega) (fun z g1 c1 c2 => ⟨_, rfl, zPar.mk hO c1 hM (fun g1' hM' => ?_)⟩) (fun z => ⟨1, List.mem_cons_self, zPar.mk hO (zFe.sz _) hM (fun g1' hM' => ?_)⟩)
  · exact mp_count (d := d + 1 + 5) hok hM' h80 h3 (fun _ g2 a1 a2 => zKM.q34 c2 (by omega) hV hno a2 a1 (fun _ => rfl)) (fun z' => absurd z (by rw [z']; decide))
  · exact mp_count (d := d + 1 + 5) hok hM' h80 h3 (fun z' => absurd z (by rw [z']; decide)) (fun _ g2 a1 a2 => zKM.ex hR hV hno a2 a1 (by decide))
theorem pr_greatest (hok : zOk X) (hb : b0 + 15000 * 64 + 20000 ≤ zz X) (hk : k < 64) (hD : 400 ≤ D) (hO : zOut o g) {cd0 : Int32} (I : zIw X x m b0 k cd0 g) : zPair X x m o b0 k yX1_greatest wX1_greatest yX3_greatest wX3_greatest [.int v, .int w, .int u] D (D + 1) g [(RJ12, 1)] KX := by
  obtain ⟨d, rfl⟩ : ∃ d, D = d + 8 := ⟨D - 8, by omega⟩
  obtain ⟨fi, fa, adm, lg, M, P, np, sz, -, hR, hM, hV, hno⟩ := I
  have h80 := hV.1.2.1
  have hm6 := hV.2.2.1.1
  have h3 := hV.1.1
  have h20 := hV.2.2.1.2.1
  refine cs_greatest hok hV hR (by omega) (by omega) (fun z g1 c1 c2 => ⟨_, rfl, zPar.mk hO c1 hM (fun g1' hM' => ?_)⟩) (fun z => ⟨1, List.mem_cons_self, zPar.mk hO (zFe.sz _) hM (fun g1' hM' => ?_)⟩)
  · exact mp_greatest (d := d + 1 + 5) hok hM' h80 h3 (fun _ g2 a1 a2 => zKM.q34 c2 (by omega) hV hno a2 a1 (fun _ => rfl)) (fun z' => absurd z (by rw [z']; decide))
  · exact mp_greatest (d := d + 1 + 5) hok hM' h80 h3 (fun z' => absurd z (by rw [z']; decide)) (fun _ g2 a1 a2 => zKM.ex hR hV hno a2 a1 (by decide))
theorem pr_greatestByAll (hok : zOk X) (hb : b0 + 15000 * 64 + 20000 ≤ zz X) (hk : k < 64) (hD : 400 ≤ D) (hO : zOut o g) {cd0 : Int32} (I : zIw X x m b0 k cd0 g) : zPair X x m o b0 k yX1_greatestByAll wX1_greatestByAll yX3_greatestByAll wX3_greatestByAll [.int v, .int w, .int u] D (D + 1) g [(RJ12, 1)] KX := by
  obtain ⟨d, rfl⟩ : ∃ d, D = d + 8 := ⟨D - 8, by omega⟩
  obtain ⟨fi, fa, adm, lg, M, P, np, sz, -, hR, hM, hV, hno⟩ := I
  have h80 := hV.1.2.1
  have hm6 := hV.2.2.1.1
  have h3 := hV.1.1
  have h20 := hV.2.2.1.2.1
  refine cs_greatestByAll hok hV hR (by omega) (by omega) (fun z g1 c1 c2 => ⟨_, rfl, zPar.mk hO c1 hM (fun g1' hM' => ?_)⟩) (fun z => ⟨1, List.mem_cons_self, zPar.mk hO (zFe.sz _) hM (fun g1' hM' => ?_)⟩)
  · exact mp_greatestByAll (d := d + 1 + 4) hok hM' h80 h3 (fun _ g2 a1 a2 => zKM.q34 c2 (by omega) hV hno a2 a1 (fun _ => rfl)) (fun z' => absurd z (by rw [z']; decide))
  · exact mp_greatestByAll (d := d + 1 + 4) hok hM' h80 h3 (fun z' => absurd z (by rw [z']; decide)) (fun _ g2 a1 a2 => zKM.ex hR hV hno a2 a1 (by decide))
theorem pr_answers (hok : zOk X) (hb : b0 + 15000 * 64 + 20000 ≤ zz X) (hk : k < 64) (hD : 400 ≤ D) (hO : zOut o g) {cd0 : Int32} (I : zIw X x m b0 k cd0 g) : zPair X x m o b0 k yX1_answers wX1_answers yX3_answers wX3_answers [.int v, .int w] D (D + 1) g [(RJ9, 1), (RJ12, 2)] KX := by
  obtain ⟨d, rfl⟩ : ∃ d, D = d + 8 := ⟨D - 8, by omega⟩
  obtain ⟨fi, fa, adm, lg, M, P, np, sz, -, hR, hM, hV, hno⟩ := I
  have h80 := hV.1.2.1
  have hm6 := hV.2.2.1.1
  have h3 := hV.1.1
  have h20 := hV.2.2.1.2.1
  have zt : ∀ i : Nat, i < M → v = nI i → ¬ zIn w 0 2 = 0 → zth (zIn v 0 (nI M - 1)) (zIn w 0 2) 1 = 0 := fun i hi ei hw => by
    have h1 : ¬ zIn v 0 (nI M - 1) = 0 := by rw [ei]; exact zIn_in hi (by omega)
    unfold zth
    rw [if_neg h1, if_neg hw, if_neg (by decide)]
  refine cs_answers hok hV hR (by omega) (by omega) (fun i hi ei hw g1 c1 c2 => ⟨_, rfl, zPar.mk hO c1 hM (fun g1' hM' => ?_)⟩) (fun cd s hc hs => ⟨cd, by rcases hs with ⟨rfl, rfl⟩ | ⟨rfl, rfl⟩ <;> simp, zPar.mk hO (zFe.sz _) hM (fun g1' hM' => ?_)⟩)
  · refine mp_answers (d := d + 7) hok hM' hm6 h80 h20 h3 (fun i' hi' ei' _ g2 a1 a2 => ?_) (fun z => absurd (zt i hi ei hw) z)
    obtain rfl := nI_ij hi hi' (by omega) (ei.symm.trans ei')
    exact zKM.q34 c2 (by omega) hV hno a2 a1 (fun _ => rfl)
  · have hc0 : cd ≠ 0 := by rcases hs with ⟨rfl, -⟩ | ⟨rfl, -⟩ <;> decide
    refine mp_answers (d := d + 7) hok hM' hm6 h80 h20 h3 (fun i' hi' ei' hw' => absurd (hc.symm.trans (zt i' hi' ei' hw')) hc0) (fun _ g2 a1 a2 => ?_)
    rw [hc] at a1
    exact zKM.ex hR hV hno a2 a1 hc0
theorem pr_setPatience (hok : zOk X) (hb : b0 + 15000 * 64 + 20000 ≤ zz X) (hk : k < 64) (hD : 400 ≤ D) (hO : zOut o g) {cd0 : Int32} (I : zIw X x m b0 k cd0 g) : zPair X x m o b0 k yX1_setPatience wX1_setPatience yX3_setPatience wX3_setPatience [.int v] D (D + 1) g [(RJ12, 1)] KX := by
  obtain ⟨d, rfl⟩ : ∃ d, D = d + 8 := ⟨D - 8, by omega⟩
  obtain ⟨fi, fa, adm, lg, M, P, np, sz, -, hR, hM, hV, hno⟩ := I
  have h80 := hV.1.2.1
  have hm6 := hV.2.2.1.1
  have h3 := hV.1.1
  have h20 := hV.2.2.1.2.1
  refine cs_setPatience hok hV hR (by omega) (by omega) (fun z g1 c1 c2 c3 => ⟨_, rfl, zPar.mk hO c1 hM (fun g1' hM' => ?_)⟩) (fun z => ⟨1, List.mem_cons_self, zPar.mk hO (zFe.sz _) hM (fun g1' hM' => ?_)⟩)
  · exact mp_setPatience (d := d + 8) hok hM' (fun _ g2 a1 a2 => ⟨_, rfl, fun _ => rfl, _, _, _, _, _, _, _, (va_up_ne _ _ (by decide)).trans (if_pos rfl), a2, a1, c2.mono (by omega), c3, hno⟩) (fun z' => absurd z' z)
  · exact mp_setPatience (d := d + 8) hok hM' (fun z' => absurd z z') (fun _ g2 a1 a2 => zKM.ex hR hV hno a2 a1 (by decide))
theorem pr_setOffset (hok : zOk X) (hb : b0 + 15000 * 64 + 20000 ≤ zz X) (hk : k < 64) (hD : 400 ≤ D) (hO : zOut o g) {cd0 : Int32} (I : zIw X x m b0 k cd0 g) : zPair X x m o b0 k yX1_setOffset wX1_setOffset yX3_setOffset wX3_setOffset [.int v, .int w] D (D + 1) g [(RJ9, 1), (RJ12, 2)] KX := by
  obtain ⟨d, rfl⟩ : ∃ d, D = d + 8 := ⟨D - 8, by omega⟩
  obtain ⟨fi, fa, adm, lg, M, P, np, sz, -, hR, hM, hV, hno⟩ := I
  have h80 := hV.1.2.1
  have hm6 := hV.2.2.1.1
  have h3 := hV.1.1
  have h20 := hV.2.2.1.2.1
  refine cs_setOffset hok hV hR (by omega) (by omega) (fun z g1 c1 c2 c3 => ⟨_, rfl, zPar.mk hO c1 hM (fun g1' hM' => ?_)⟩) (fun cd s hc hs => ⟨cd, by rcases hs with ⟨rfl, rfl⟩ | ⟨rfl, rfl⟩ <;> simp, zPar.mk hO (zFe.sz _) hM (fun g1' hM' => ?_)⟩)
  · exact mp_setOffset (d := d + 7) hok hM' (fun _ g2 a1 a2 => ⟨_, rfl, fun _ => rfl, _, _, _, _, _, _, _, if_pos rfl, a2, a1, c2.mono (by omega), c3, zno_cg hno (fun _ _ => by rw [va_up_ne _ _ (by decide)]) (fun _ _ => by rw [va_up_ne _ _ (by decide)])⟩) (fun z' => absurd z z')
  · have hc0 : cd ≠ 0 := by rcases hs with ⟨rfl, -⟩ | ⟨rfl, -⟩ <;> decide
    refine mp_setOffset (d := d + 7) hok hM' (fun z' => absurd (hc.symm.trans z') hc0) (fun _ g2 a1 a2 => ?_)
    rw [hc] at a1
    exact zKM.ex hR hV hno a2 a1 hc0
theorem zev_34 {fi fi' : Nat → Int32} {fa fa' : Nat → Nat → Int32} {lg : List Nat} {M : Nat} {np : Nat → Nat} {nd wh kd ix vl : Int32} (h : zev fi fa lg M np nd wh kd ix vl fi' fa') : fi' 34 = 0 := by
  obtain ⟨fi1, fa1, ⟨z1, -, -⟩, k1, -⟩ := h
  rw [k1 34 (by decide) (by decide) (by decide), z1]
  unfold zc1
  rw [va_up_ne _ _ (by decide), va_up_ne _ _ (by decide)]
  exact if_pos rfl
theorem pr_event (hok : zOk X) (hb : b0 + 15000 * 64 + 20000 ≤ zz X) (hk : k < 64) (hD : 400 ≤ D) (hO : zOut o g) {cd0 : Int32} (I : zIw X x m b0 k cd0 g) : zPair X x m o b0 k yX1_event wX1_event yX3_event wX3_event [.int v, .int w, .int u, .int q, .int r] D (D + 1) g [(RJ9, 1), (RJ12, 2), (RJ13, 3)] KX := by
  obtain ⟨d, rfl⟩ : ∃ d, D = d + 8 := ⟨D - 8, by omega⟩
  obtain ⟨fi, fa, adm, lg, M, P, np, sz, -, hR, hM, hV, hno⟩ := I
  have h80 := hV.1.2.1
  have hm6 := hV.2.2.1.1
  have h3 := hV.1.1
  have h20 := hV.2.2.1.2.1
  refine cs_event hok hV hR (by omega) (by omega) (fun z h79 a ha ea g1 c1 c2 => ⟨_, rfl, zPar.mk hO c1 hM (fun g1' hM' => ?_)⟩) (fun cd s hc hs => ⟨cd, by rcases hs with ⟨rfl, rfl⟩ | ⟨rfl, rfl⟩ | ⟨rfl, rfl⟩ <;> simp, zPar.mk hO (zFe.sz _) hM (fun g1' hM' => ?_)⟩)
  · refine mp_event (d := d + 2) hok hM' hV.1 hV.2.1 hV.2.2.1 (fun _ _ a' ha' ea' g2 fi' fa' a1 a2 a3 => ?_) (fun z' => absurd z z')
    obtain rfl := nI_ij ha ha' (by omega) (ea.symm.trans ea')
    obtain ⟨e1, e2⟩ := c2 fi' fa' a3
    exact ⟨_, rfl, fun _ => rfl, _, _, _, _, _, _, _, zev_34 a3, a2, a1, e1.mono (by omega), e2, zno_ev hV.2.2.2.2.1 hV.1.2.2.2.1 hno a3⟩
  · have hc0 : cd ≠ 0 := by rcases hs with ⟨rfl, -⟩ | ⟨rfl, -⟩ | ⟨rfl, -⟩ <;> decide
    refine mp_event (d := d + 2) hok hM' hV.1 hV.2.1 hV.2.2.1 (fun z' => absurd (hc.symm.trans z') hc0) (fun _ g2 a1 a2 => ?_)
    rw [hc] at a1
    exact zKM.ex hR hV hno a2 a1 hc0
theorem pr_offer (hok : zOk X) (hb : b0 + 15000 * 64 + 20000 ≤ zz X) (hk : k < 64) (hD : 400 ≤ D) (hO : zOut o g) {cd0 : Int32} (I : zIw X x m b0 k cd0 g) : zPair X x m o b0 k yX1_offer wX1_offer yX3_offer wX3_offer [.int v, .int w, .int u, .int q, .int r] D (D + 1) g [(RJ9, 1), (RJ12, 2), (RJ13, 3)] KX := by
  obtain ⟨d, rfl⟩ : ∃ d, D = d + 8 := ⟨D - 8, by omega⟩
  obtain ⟨fi, fa, adm, lg, M, P, np, sz, -, hR, hM, hV, hno⟩ := I
  have h80 := hV.1.2.1
  have hm6 := hV.2.2.1.1
  have h3 := hV.1.1
  have h20 := hV.2.2.1.2.1
  refine cs_offer hok hV hR (by omega) (by omega) (fun z h79 a ha ea hg g1 c1 c2 => ⟨_, rfl, zPar.mk hO c1 hM (fun g1' hM' => ?_)⟩) (fun z h79 a ha ea hg g1 c1 c2 => ⟨_, rfl, zPar.mk hO c1 hM (fun g1' hM' => ?_)⟩) (fun cd s hc hs => ⟨cd, by rcases hs with ⟨rfl, rfl⟩ | ⟨rfl, rfl⟩ | ⟨rfl, rfl⟩ <;> simp, zPar.mk hO (zFe.sz _) hM (fun g1' hM' => ?_)⟩)
  · refine mp_offer (d := d + 2) hok hM' hV.1 hV.2.1 hV.2.2.1 (fun _ _ a' ha' ea' fi1 fa1 _ _ g2 fi' fa' a1 a2 a3 => ?_) (fun _ _ a' ha' ea' fi1 fa1 hz hg' => ?_) (fun z' => absurd z z')
    · obtain rfl := nI_ij ha ha' (by omega) (ea.symm.trans ea')
      obtain ⟨e1, e2⟩ := c2 fi' fa' a3
      exact ⟨_, rfl, fun _ => rfl, _, _, _, _, _, _, _, zev_34 a3, a2, a1, e1.mono (by omega), e2, zno_ev hV.2.2.2.2.1 hV.1.2.2.2.1 hno a3⟩
    · obtain rfl := nI_ij ha ha' (by omega) (ea.symm.trans ea')
      rw [hg fi1 fa1 hz] at hg'
      cases hg'
  · refine mp_offer (d := d + 2) hok hM' hV.1 hV.2.1 hV.2.2.1 (fun _ _ a' ha' ea' fi1 fa1 hz hg' => ?_) (fun _ _ a' ha' ea' fi1 fa1 _ _ g2 fi' fa' a1 a2 a3 => ?_) (fun z' => absurd z z')
    · obtain rfl := nI_ij ha ha' (by omega) (ea.symm.trans ea')
      rw [hg fi1 fa1 hz] at hg'
      cases hg'
    · obtain ⟨e1, e2⟩ := c2 fi' fa' a3
      have hlv := hV.1.2.2.2.1
      refine ⟨_, rfl, fun _ => rfl, _, _, _, _, _, _, _, a3.2.2.1, a2, a1, e1.mono (by omega), e2, zno_cg hno (fun y hy => a3.2.2.2.2.1 7 (by decide) (by decide) y (hlv y hy)) (fun y hy => a3.2.2.2.2.1 6 (by decide) (by decide) y (hlv y hy))⟩
  · have hc0 : cd ≠ 0 := by rcases hs with ⟨rfl, -⟩ | ⟨rfl, -⟩ | ⟨rfl, -⟩ <;> decide
    refine mp_offer (d := d + 2) hok hM' hV.1 hV.2.1 hV.2.2.1 (fun z' => absurd (hc.symm.trans z') hc0) (fun z' => absurd (hc.symm.trans z') hc0) (fun _ g2 a1 a2 => ?_)
    rw [hc] at a1
    exact zKM.ex hR hV hno a2 a1 hc0
theorem pr_close (hok : zOk X) (hb : b0 + 15000 * 64 + 20000 ≤ zz X) (hk : k < 64) (hD : 400 ≤ D) (hO : zOut o g) {cd0 : Int32} (I : zIw X x m b0 k cd0 g) : zPair X x m o b0 k yX1_close wX1_close yX3_close wX3_close [] D (D + 1) g [(RJ13, 1)] KX := by
  obtain ⟨d, rfl⟩ : ∃ d, D = d + 8 := ⟨D - 8, by omega⟩
  obtain ⟨fi, fa, adm, lg, M, P, np, sz, -, hR, hM, hV, hno⟩ := I
  have h80 := hV.1.2.1
  have hm6 := hV.2.2.1.1
  have h3 := hV.1.1
  have h20 := hV.2.2.1.2.1
  refine cs_close hok hV hR (by omega) (by omega) (fun z g1 c1 c2 => ⟨_, rfl, zPar.mk hO c1 hM (fun g1' hM' => ?_)⟩) (fun z => ⟨1, List.mem_cons_self, zPar.mk hO (zFe.sz _) hM (fun g1' hM' => ?_)⟩)
  · refine mp_close (d := d + 2) hok hM' hV.1 hV.2.1 hV.2.2.1 (fun _ g2 fi' fa' a1 a2 a3 => ?_) (fun z' => absurd z z')
    obtain ⟨e1, e2⟩ := c2 fi' fa' a3
    refine ⟨_, rfl, fun _ => rfl, _, _, _, _, _, _, _, ?_, a2, a1, e1.mono (by omega), e2, zno_cg hno (fun _ _ => ?_) (fun _ _ => ?_)⟩
    · rw [a3.1 34 (by decide) (by decide) (by decide), va_up_ne _ _ (by decide)]
      exact if_pos rfl
    · rw [a3.2.1 7 (by decide) (by decide) (by decide) (by decide) (by decide) (by decide) (by decide)]
    · rw [a3.2.1 6 (by decide) (by decide) (by decide) (by decide) (by decide) (by decide) (by decide)]
  · exact mp_close (d := d + 2) hok hM' hV.1 hV.2.1 hV.2.2.1 (fun z' => absurd z' z) (fun _ g2 a1 a2 => zKM.ex hR hV hno a2 a1 (by decide))
theorem zp_34 {fi : Nat → Int32} {a b : Nat} : zp1 (va_up fi 34 0) a b 34 = 0 := by
  unfold zp1
  rw [va_up_ne _ _ (by decide), va_up_ne _ _ (by decide)]
  exact if_pos rfl
theorem zp_n {fa : Nat → Nat → Int32} {a P : Nat} {w n b s : Int32} {j : Nat} (hj : j = 6 ∨ j = 7) : zp2 fa a w n b s P j = fa j := by
  unfold zp2 zp3
  rcases hj with rfl | rfl <;> rw [va_up_ne _ _ (by decide), va_up_ne _ _ (by decide), va_up_ne _ _ (by decide), va_up_ne _ _ (by decide), va_up_ne _ _ (by decide)]
theorem pk_make {yc : MethodName} {wc : List Cond} {y : MethodName} {wm : List Cond} {as : List Value} {hs : List (String × Int32)} {fi : Nat → Int32} {fa : Nat → Nat → Int32} {adm : Nat → Nat} {lg : List Nat} {M P : Nat} {np sz : Nat → Nat} (hR : zRR X x fi fa lg M P np sz (b0 + 15000 * k) g) (hM : zMd g m fi adm fa) (hV : zPv fi fa lg M P np sz) (hno : zno fa lg) (hO : zOut o g) {ok : Bool} {s c : Nat} {wi n b e : Int32} (hw : wi = nI c)
    (hmp : ∀ (g' : zG) (K : Option Value → zG → Prop), zMd g' m fi adm fa → zmk m fi adm fa P sz g' K ok s wi n b e → zCal X (D + 1) y wm (.ref m :: as) g' K KX)
    (hcs : ∀ (K : Option Value → zG → Prop) (KX : String → zG → Prop), zck X x fi fa lg M P np sz (b0 + 15000 * k) g K KX ok s c n b → zCal X D yc wc (.ref x :: as) g K KX) (h12 : ok = false → (RJ12, (1 : Int32)) ∈ hs) (h13 : ok = true → (RJ13, e) ∈ hs) (he : e ≠ 0) : zPair X x m o b0 k yc wc y wm as D (D + 1) g hs KX := by
  subst hw
  refine hcs _ _ ⟨fun hc g1 c1 c2 c3 => ⟨_, rfl, zPar.mk hO c1 hM (fun g1' hM' => ?_)⟩, fun hf g1 c1 c2 => ⟨1, h12 hf, zPar.mk hO c1 hM (fun g1' hM' => ?_)⟩, fun ht hc g1 c1 c2 => ⟨e, h13 ht, zPar.mk hO c1 hM (fun g1' hM' => ?_)⟩⟩
  · exact hmp g1' _ hM' ⟨fun _ g2 a1 a2 => ⟨_, rfl, fun _ => rfl, _, _, _, _, _, _, _, zp_34, a2, a1, c2.mono (by omega), c3, zno_cg hno (fun _ _ => by rw [zp_n (Or.inr rfl)]) (fun _ _ => by rw [zp_n (Or.inl rfl)])⟩, fun z => absurd hc z⟩
  · refine hmp g1' _ hM' ⟨fun z => absurd z.1 (by rw [hf]; decide), fun _ g2 a1 a2 => ?_⟩
    rw [if_neg (by rw [hf]; decide)] at a1
    exact zKM.q34 c2 (by omega) hV hno a2 a1 (fun z => absurd z (by decide))
  · refine hmp g1' _ hM' ⟨fun z => absurd z.2 hc, fun _ g2 a1 a2 => ?_⟩
    rw [if_pos ht] at a1
    exact zKM.q34 c2 (by omega) hV hno a2 a1 (fun z => absurd z he)
theorem pr_not (hok : zOk X) (hb : b0 + 15000 * 64 + 20000 ≤ zz X) (hk : k < 64) (hD : 400 ≤ D) (hO : zOut o g) {cd0 : Int32} (I : zIw X x m b0 k cd0 g) : zPair X x m o b0 k yX1_not wX1_not yX3_not_2 wX3_not_2 [] D (D + 1) g [(RJ13, 1)] KX := by
  obtain ⟨d, rfl⟩ : ∃ d, D = d + 8 := ⟨D - 8, by omega⟩
  obtain ⟨fi, fa, adm, lg, M, P, np, sz, -, hR, hM, hV, hno⟩ := I
  have h80 := hV.1.2.1
  have hm6 := hV.2.2.1.1
  have h3 := hV.1.1
  have h20 := hV.2.2.1.2.1
  exact pk_make hR hM hV hno hO (wi := 2) (e := 1) rfl (fun g' K hM' h => mp_not_2 (d := d + 6) hok hM' hV.2.2.2.1 h) (fun K KX h => cs_not hok hV hR (by omega) (by omega) h) (fun z => absurd z (by decide)) (fun _ => by simp) (by decide)
theorem pr_both (hok : zOk X) (hb : b0 + 15000 * 64 + 20000 ≤ zz X) (hk : k < 64) (hD : 400 ≤ D) (hO : zOut o g) {cd0 : Int32} (I : zIw X x m b0 k cd0 g) : zPair X x m o b0 k yX1_both wX1_both yX3_both wX3_both [] D (D + 1) g [(RJ13, 1)] KX := by
  obtain ⟨d, rfl⟩ : ∃ d, D = d + 8 := ⟨D - 8, by omega⟩
  obtain ⟨fi, fa, adm, lg, M, P, np, sz, -, hR, hM, hV, hno⟩ := I
  have h80 := hV.1.2.1
  have hm6 := hV.2.2.1.1
  have h3 := hV.1.1
  have h20 := hV.2.2.1.2.1
  exact pk_make hR hM hV hno hO (wi := 3) (e := 1) rfl (fun g' K hM' h => mp_both (d := d + 6) hok hM' hV.2.2.2.1 h) (fun K KX h => cs_both hok hV hR (by omega) (by omega) h) (fun z => absurd z (by decide)) (fun _ => by simp) (by decide)
theorem pr_either (hok : zOk X) (hb : b0 + 15000 * 64 + 20000 ≤ zz X) (hk : k < 64) (hD : 400 ≤ D) (hO : zOut o g) {cd0 : Int32} (I : zIw X x m b0 k cd0 g) : zPair X x m o b0 k yX1_either wX1_either yX3_either wX3_either [] D (D + 1) g [(RJ13, 1)] KX := by
  obtain ⟨d, rfl⟩ : ∃ d, D = d + 8 := ⟨D - 8, by omega⟩
  obtain ⟨fi, fa, adm, lg, M, P, np, sz, -, hR, hM, hV, hno⟩ := I
  have h80 := hV.1.2.1
  have hm6 := hV.2.2.1.1
  have h3 := hV.1.1
  have h20 := hV.2.2.1.2.1
  exact pk_make hR hM hV hno hO (wi := 4) (e := 1) rfl (fun g' K hM' h => mp_either (d := d + 6) hok hM' hV.2.2.2.1 h) (fun K KX h => cs_either hok hV hR (by omega) (by omega) h) (fun z => absurd z (by decide)) (fun _ => by simp) (by decide)
theorem pr_before (hok : zOk X) (hb : b0 + 15000 * 64 + 20000 ≤ zz X) (hk : k < 64) (hD : 400 ≤ D) (hO : zOut o g) {cd0 : Int32} (I : zIw X x m b0 k cd0 g) : zPair X x m o b0 k yX1_before wX1_before yX3_before wX3_before [] D (D + 1) g [(RJ13, 1)] KX := by
  obtain ⟨d, rfl⟩ : ∃ d, D = d + 8 := ⟨D - 8, by omega⟩
  obtain ⟨fi, fa, adm, lg, M, P, np, sz, -, hR, hM, hV, hno⟩ := I
  have h80 := hV.1.2.1
  have hm6 := hV.2.2.1.1
  have h3 := hV.1.1
  have h20 := hV.2.2.1.2.1
  exact pk_make hR hM hV hno hO (wi := 5) (e := 1) rfl (fun g' K hM' h => mp_before (d := d + 6) hok hM' hV.2.2.2.1 h) (fun K KX h => cs_before hok hV hR (by omega) (by omega) h) (fun z => absurd z (by decide)) (fun _ => by simp) (by decide)
theorem pr_next (hok : zOk X) (hb : b0 + 15000 * 64 + 20000 ≤ zz X) (hk : k < 64) (hD : 400 ≤ D) (hO : zOut o g) {cd0 : Int32} (I : zIw X x m b0 k cd0 g) : zPair X x m o b0 k yX1_next wX1_next yX3_next wX3_next [] D (D + 1) g [(RJ13, 1)] KX := by
  obtain ⟨d, rfl⟩ : ∃ d, D = d + 8 := ⟨D - 8, by omega⟩
  obtain ⟨fi, fa, adm, lg, M, P, np, sz, -, hR, hM, hV, hno⟩ := I
  have h80 := hV.1.2.1
  have hm6 := hV.2.2.1.1
  have h3 := hV.1.1
  have h20 := hV.2.2.1.2.1
  exact pk_make hR hM hV hno hO (wi := 8) (e := 1) rfl (fun g' K hM' h => mp_next (d := d + 6) hok hM' hV.2.2.2.1 h) (fun K KX h => cs_next hok hV hR (by omega) (by omega) h) (fun z => absurd z (by decide)) (fun _ => by simp) (by decide)
theorem pr_since (hok : zOk X) (hb : b0 + 15000 * 64 + 20000 ≤ zz X) (hk : k < 64) (hD : 400 ≤ D) (hO : zOut o g) {cd0 : Int32} (I : zIw X x m b0 k cd0 g) : zPair X x m o b0 k yX1_since wX1_since yX3_since wX3_since [.int v] D (D + 1) g [(RJ12, 1), (RJ13, 2)] KX := by
  obtain ⟨d, rfl⟩ : ∃ d, D = d + 8 := ⟨D - 8, by omega⟩
  obtain ⟨fi, fa, adm, lg, M, P, np, sz, -, hR, hM, hV, hno⟩ := I
  have h80 := hV.1.2.1
  have hm6 := hV.2.2.1.1
  have h3 := hV.1.1
  have h20 := hV.2.2.1.2.1
  exact pk_make hR hM hV hno hO (wi := 6) (e := 2) rfl (fun g' K hM' h => mp_since (d := d + 6) hok hM' hV.2.2.2.1 h) (fun K KX h => cs_since hok hV hR (by omega) (by omega) h) (fun _ => by simp) (fun _ => by simp) (by decide)
theorem pr_once (hok : zOk X) (hb : b0 + 15000 * 64 + 20000 ≤ zz X) (hk : k < 64) (hD : 400 ≤ D) (hO : zOut o g) {cd0 : Int32} (I : zIw X x m b0 k cd0 g) : zPair X x m o b0 k yX1_once wX1_once yX3_once wX3_once [.int v] D (D + 1) g [(RJ12, 1), (RJ13, 2)] KX := by
  obtain ⟨d, rfl⟩ : ∃ d, D = d + 8 := ⟨D - 8, by omega⟩
  obtain ⟨fi, fa, adm, lg, M, P, np, sz, -, hR, hM, hV, hno⟩ := I
  have h80 := hV.1.2.1
  have hm6 := hV.2.2.1.1
  have h3 := hV.1.1
  have h20 := hV.2.2.1.2.1
  exact pk_make hR hM hV hno hO (wi := 7) (e := 2) rfl (fun g' K hM' h => mp_once (d := d + 6) hok hM' hV.2.2.2.1 h) (fun K KX h => cs_once hok hV hR (by omega) (by omega) h) (fun _ => by simp) (fun _ => by simp) (by decide)
theorem pr_until (hok : zOk X) (hb : b0 + 15000 * 64 + 20000 ≤ zz X) (hk : k < 64) (hD : 400 ≤ D) (hO : zOut o g) {cd0 : Int32} (I : zIw X x m b0 k cd0 g) : zPair X x m o b0 k yX1_until wX1_until yX3_until wX3_until [.int v] D (D + 1) g [(RJ12, 1), (RJ13, 2)] KX := by
  obtain ⟨d, rfl⟩ : ∃ d, D = d + 8 := ⟨D - 8, by omega⟩
  obtain ⟨fi, fa, adm, lg, M, P, np, sz, -, hR, hM, hV, hno⟩ := I
  have h80 := hV.1.2.1
  have hm6 := hV.2.2.1.1
  have h3 := hV.1.1
  have h20 := hV.2.2.1.2.1
  exact pk_make hR hM hV hno hO (wi := 9) (e := 2) rfl (fun g' K hM' h => mp_until (d := d + 6) hok hM' hV.2.2.2.1 h) (fun K KX h => cs_until hok hV hR (by omega) (by omega) h) (fun _ => by simp) (fun _ => by simp) (by decide)
theorem pr_soon (hok : zOk X) (hb : b0 + 15000 * 64 + 20000 ≤ zz X) (hk : k < 64) (hD : 400 ≤ D) (hO : zOut o g) {cd0 : Int32} (I : zIw X x m b0 k cd0 g) : zPair X x m o b0 k yX1_soon wX1_soon yX3_soon wX3_soon [.int v] D (D + 1) g [(RJ12, 1), (RJ13, 2)] KX := by
  obtain ⟨d, rfl⟩ : ∃ d, D = d + 8 := ⟨D - 8, by omega⟩
  obtain ⟨fi, fa, adm, lg, M, P, np, sz, -, hR, hM, hV, hno⟩ := I
  have h80 := hV.1.2.1
  have hm6 := hV.2.2.1.1
  have h3 := hV.1.1
  have h20 := hV.2.2.1.2.1
  exact pk_make hR hM hV hno hO (wi := 10) (e := 2) rfl (fun g' K hM' h => mp_soon (d := d + 6) hok hM' hV.2.2.2.1 h) (fun K KX h => cs_soon hok hV hR (by omega) (by omega) h) (fun _ => by simp) (fun _ => by simp) (by decide)
theorem pr_many (hok : zOk X) (hb : b0 + 15000 * 64 + 20000 ≤ zz X) (hk : k < 64) (hD : 400 ≤ D) (hO : zOut o g) {cd0 : Int32} (I : zIw X x m b0 k cd0 g) : zPair X x m o b0 k yX1_many wX1_many yX3_many wX3_many [.int v, .int w] D (D + 1) g [(RJ12, 1), (RJ13, 2)] KX := by
  obtain ⟨d, rfl⟩ : ∃ d, D = d + 8 := ⟨D - 8, by omega⟩
  obtain ⟨fi, fa, adm, lg, M, P, np, sz, -, hR, hM, hV, hno⟩ := I
  have h80 := hV.1.2.1
  have hm6 := hV.2.2.1.1
  have h3 := hV.1.1
  have h20 := hV.2.2.1.2.1
  exact pk_make hR hM hV hno hO (wi := 11) (e := 2) rfl (fun g' K hM' h => mp_many (d := d + 7) hok hM' hV.2.2.2.1 h) (fun K KX h => cs_many hok hV hR (by omega) (by omega) h) (fun _ => by simp) (fun _ => by simp) (by decide)
theorem pr_kindIs (hok : zOk X) (hb : b0 + 15000 * 64 + 20000 ≤ zz X) (hk : k < 64) (hD : 400 ≤ D) (hO : zOut o g) {cd0 : Int32} (I : zIw X x m b0 k cd0 g) : zPair X x m o b0 k yX1_kindIs wX1_kindIs yX3_kindIs wX3_kindIs [.int v] D (D + 1) g [(RJ12, 1), (RJ13, 2)] KX := by
  obtain ⟨d, rfl⟩ : ∃ d, D = d + 8 := ⟨D - 8, by omega⟩
  obtain ⟨fi, fa, adm, lg, M, P, np, sz, -, hR, hM, hV, hno⟩ := I
  have h80 := hV.1.2.1
  have hm6 := hV.2.2.1.1
  have h3 := hV.1.1
  have h20 := hV.2.2.1.2.1
  have hm : ∀ g' : zG, zMd g' m fi adm fa → ∀ K : Option Value → zG → Prop, zly m fi adm fa P sz g' K (!(zIn v 0 7 == 0)) 0 v 0 → zCal X (d + 8 + 1) yX3_kindIs wX3_kindIs [.ref m, .int v] g' K KX := fun g' hM' K h => mp_kindIs (d := d + 6) hok hM' hV.2.2.2.1 h
  refine cs_kindIs hok hV hR (by omega) (by omega) (fun hz h8 g1 c1 c2 c3 => ⟨_, rfl, zPar.mk hO c1 hM (fun g1' hM' => ?_)⟩) (fun s hs g1 c1 c2 => ?_)
  · exact hm g1' hM' _ ⟨fun _ _ g2 a1 a2 => ⟨_, rfl, fun _ => rfl, _, _, _, _, _, _, _, zp_34, a2, a1, c2.mono (by omega), c3, zno_cg hno (fun _ _ => by rw [zp_n (Or.inr rfl)]) (fun _ _ => by rw [zp_n (Or.inl rfl)])⟩, fun z => absurd ⟨by simp [hz], h8⟩ z⟩
  · rcases hs with ⟨hz, rfl⟩ | ⟨hz, hz8, rfl⟩
    · refine ⟨1, by simp, zPar.mk hO c1 hM (fun g1' hM' => ?_)⟩
      have hf : (!(zIn v 0 7 == 0)) = false := by simp [hz]
      refine hm g1' hM' _ ⟨fun z => absurd z (by rw [hf]; decide), fun _ g2 a1 a2 => ?_⟩
      rw [if_neg (by rw [hf]; decide)] at a1
      exact zKM.q34 c2 (by omega) hV hno a2 a1 (fun z => absurd z (by decide))
    · refine ⟨2, by simp, zPar.mk hO c1 hM (fun g1' hM' => ?_)⟩
      refine hm g1' hM' _ ⟨fun _ z => absurd z hz8, fun _ g2 a1 a2 => ?_⟩
      rw [if_pos (by simp [hz])] at a1
      exact zKM.q34 c2 (by omega) hV hno a2 a1 (fun z => absurd z (by decide))
theorem pr_valueIs (hok : zOk X) (hb : b0 + 15000 * 64 + 20000 ≤ zz X) (hk : k < 64) (hD : 400 ≤ D) (hO : zOut o g) {cd0 : Int32} (I : zIw X x m b0 k cd0 g) : zPair X x m o b0 k yX1_valueIs wX1_valueIs yX3_valueIs wX3_valueIs [.int v, .int w] D (D + 1) g [(RJ12, 1), (RJ13, 2)] KX := by
  obtain ⟨d, rfl⟩ : ∃ d, D = d + 8 := ⟨D - 8, by omega⟩
  obtain ⟨fi, fa, adm, lg, M, P, np, sz, -, hR, hM, hV, hno⟩ := I
  have h80 := hV.1.2.1
  have hm6 := hV.2.2.1.1
  have h3 := hV.1.1
  have h20 := hV.2.2.1.2.1
  have hm : ∀ g' : zG, zMd g' m fi adm fa → ∀ K : Option Value → zG → Prop, zly m fi adm fa P sz g' K (!(zIn v 0 2 == 0) && !(zIn w (-1000) 1000 == 0)) 1 v w → zCal X (d + 8 + 1) yX3_valueIs wX3_valueIs [.ref m, .int v, .int w] g' K KX := fun g' hM' K h => mp_valueIs (d := d + 6) hok hM' hV.2.2.2.1 h
  refine cs_valueIs hok hV hR (by omega) (by omega) (fun hz hy h8 g1 c1 c2 c3 => ⟨_, rfl, zPar.mk hO c1 hM (fun g1' hM' => ?_)⟩) (fun s hs g1 c1 c2 => ?_)
  · exact hm g1' hM' _ ⟨fun _ _ g2 a1 a2 => ⟨_, rfl, fun _ => rfl, _, _, _, _, _, _, _, zp_34, a2, a1, c2.mono (by omega), c3, zno_cg hno (fun _ _ => by rw [zp_n (Or.inr rfl)]) (fun _ _ => by rw [zp_n (Or.inl rfl)])⟩, fun z => absurd ⟨by simp [hz, hy], h8⟩ z⟩
  · rcases hs with ⟨hz, rfl⟩ | ⟨hz, hy, hz8, rfl⟩
    · refine ⟨1, by simp, zPar.mk hO c1 hM (fun g1' hM' => ?_)⟩
      have hf : (!(zIn v 0 2 == 0) && !(zIn w (-1000) 1000 == 0)) = false := by rcases hz with hz | hz <;> simp [hz]
      refine hm g1' hM' _ ⟨fun z => absurd z (by rw [hf]; decide), fun _ g2 a1 a2 => ?_⟩
      rw [if_neg (by rw [hf]; decide)] at a1
      exact zKM.q34 c2 (by omega) hV hno a2 a1 (fun z => absurd z (by decide))
    · refine ⟨2, by simp, zPar.mk hO c1 hM (fun g1' hM' => ?_)⟩
      refine hm g1' hM' _ ⟨fun _ z => absurd z hz8, fun _ g2 a1 a2 => ?_⟩
      rw [if_pos (by simp [hz, hy])] at a1
      exact zKM.q34 c2 (by omega) hV hno a2 a1 (fun z => absurd z (by decide))
theorem pr_watch (hok : zOk X) (hb : b0 + 15000 * 64 + 20000 ≤ zz X) (hk : k < 64) (hD : 400 ≤ D) (hO : zOut o g) {cd0 : Int32} (I : zIw X x m b0 k cd0 g) (hv : zbo v) (hw : zbo w) : zPair X x m o b0 k yX1_watch wX1_watch yX3_watch wX3_watch [.int v, .int w] D (D + 1) g [(RJ13, 1)] KX := by
  obtain ⟨d, rfl⟩ : ∃ d, D = d + 8 := ⟨D - 8, by omega⟩
  obtain ⟨fi, fa, adm, lg, M, P, np, sz, -, hR, hM, hV, hno⟩ := I
  have h80 := hV.1.2.1
  have hm6 := hV.2.2.1.1
  have h3 := hV.1.1
  have h20 := hV.2.2.1.2.1
  refine cs_watch hok hV hR (by omega) hv hw (by omega) (fun hP hM6 g1 c1 c2 => ⟨_, rfl, zPar.mk hO c1 hM (fun g1' hM' => ?_)⟩) (fun z => ⟨1, List.mem_cons_self, zPar.mk hO (zFe.sz _) hM (fun g1' hM' => ?_)⟩)
  · refine mp_watch (d := d + 3) hok hM' hV.1 hV.2.1 hm6 h20 hV.2.2.2.1 hv hw (fun _ _ g2 fi' fa' a1 a2 a3 => ?_) (fun z => absurd ⟨hP, hM6⟩ z)
    obtain ⟨e1, e2⟩ := c2 fi' fa' a3
    have n6 : ∀ j, j = 6 ∨ j = 7 → fa' j = fa j := fun j hj => by
      rw [a3.2.1 j (by omega) (by omega) (by omega) (by omega) (by omega) (by omega) (by omega)]
      unfold zw2 zwc
      rw [va_up_ne _ _ (by omega), va_up_ne _ _ (by omega), va_up_ne _ _ (by omega), va_up_ne _ _ (by omega), va_up_ne _ _ (by omega), va_up_ne _ _ (by omega), va_up_ne _ _ (by omega), va_up_ne _ _ (by omega)]
    refine ⟨_, rfl, fun _ => rfl, _, _, _, _, _, _, _, ?_, a2, a1, e1.mono (by omega), e2, zno_cg hno (fun _ _ => ?_) (fun _ _ => ?_)⟩
    · rw [a3.1 34 (by decide) (by decide) (by decide)]
      unfold zw1
      rw [va_up_ne _ _ (by decide), va_up_ne _ _ (by decide), va_up_ne _ _ (by decide)]
      exact if_pos rfl
    · rw [n6 7 (Or.inr rfl)]
    · rw [n6 6 (Or.inl rfl)]
  · exact mp_watch (d := d + 3) hok hM' hV.1 hV.2.1 hm6 h20 hV.2.2.2.1 hv hw (fun h1 h2 => absurd ⟨h1, h2⟩ z) (fun _ g2 a1 a2 => zKM.ex hR hV hno a2 a1 (by decide))
theorem pr_explanation (hok : zOk X) (hb : b0 + 15000 * 64 + 20000 ≤ zz X) (hk : k < 64) (hD : 400 ≤ D) (hO : zOut o g) {cd0 : Int32} (I : zIw X x m b0 k cd0 g) : zPair X x m o b0 k yX1_explanation wX1_explanation yX3_explanation wX3_explanation [.int v, .int w] D (D + 1) g [(RJ9, 1), (RJ13, 2)] KX := by
  obtain ⟨d, rfl⟩ : ∃ d, D = d + 8 := ⟨D - 8, by omega⟩
  obtain ⟨fi, fa, adm, lg, M, P, np, sz, -, hR, hM, hV, hno⟩ := I
  have h80 := hV.1.2.1
  have hm6 := hV.2.2.1.1
  have h3 := hV.1.1
  have h20 := hV.2.2.1.2.1
  refine cs_explanation hok hV hR (by omega) (by omega) (fun z i e hi he ei ee g1 c1 c2 => ⟨_, rfl, zPar.mk hO c1 hM (fun g1' hM' => ?_)⟩) (fun cd s hc hs => ⟨cd, by rcases hs with ⟨rfl, rfl⟩ | ⟨rfl, rfl⟩ <;> simp, zPar.mk hO (zFe.sz _) hM (fun g1' hM' => ?_)⟩)
  · refine mp_explanation (d := d + 1) hok hM' hV.1 hV.2.1 hV.2.2.1 ⟨fun _ i' e' hi' he' ei' ee' g2 fi' fa' a1 a2 a3 => ?_, fun z' => absurd z z'⟩
    obtain rfl := nI_ij hi hi' (by omega) (ei.symm.trans ei')
    obtain rfl := nI_ij he he' (by omega) (ee.symm.trans ee')
    exact zKM.q c2 (by omega) hV hno a3.qs ((a3.1 34 (by decide) (by decide) (by decide)).trans (if_pos rfl)) a2 a1 (fun _ => rfl)
  · have hc0 : cd ≠ 0 := by rcases hs with ⟨rfl, -⟩ | ⟨rfl, -⟩ <;> decide
    refine mp_explanation (d := d + 1) hok hM' hV.1 hV.2.1 hV.2.2.1 ⟨fun h16 i' e' hi' he' ei' ee' => absurd (hc.symm.trans ?_) hc0, fun _ g2 a1 a2 => ?_⟩
    · unfold zxl
      rw [if_neg (fun z => z.elim (by rw [ei']; exact zIn_in hi' (by omega)) (by rw [ee']; exact zIn_in he' (by omega))), if_neg (by omega)]
    · rw [hc] at a1
      exact zKM.ex hR hV hno a2 a1 hc0
theorem pr_explainedBy (hok : zOk X) (hb : b0 + 15000 * 64 + 20000 ≤ zz X) (hk : k < 64) (hD : 400 ≤ D) (hO : zOut o g) {cd0 : Int32} (I : zIw X x m b0 k cd0 g) : zPair X x m o b0 k yX1_explainedBy wX1_explainedBy yX3_explainedBy wX3_explainedBy [.int v, .int w, .int u] D (D + 1) g [(RJ9, 1), (RJ13, 2)] KX := by
  obtain ⟨d, rfl⟩ : ∃ d, D = d + 8 := ⟨D - 8, by omega⟩
  obtain ⟨fi, fa, adm, lg, M, P, np, sz, -, hR, hM, hV, hno⟩ := I
  have h80 := hV.1.2.1
  have hm6 := hV.2.2.1.1
  have h3 := hV.1.1
  have h20 := hV.2.2.1.2.1
  refine cs_explainedBy hok hV hR (by omega) (by omega) (fun z i e hi he ei ee g1 c1 c2 => ⟨_, rfl, zPar.mk hO c1 hM (fun g1' hM' => ?_)⟩) (fun cd s hc hs => ⟨cd, by rcases hs with ⟨rfl, rfl⟩ | ⟨rfl, rfl⟩ <;> simp, zPar.mk hO (zFe.sz _) hM (fun g1' hM' => ?_)⟩)
  · refine mp_explainedBy (d := d + 1) hok hM' hV.1 hV.2.1 hV.2.2.1 ⟨fun _ i' e' hi' he' ei' ee' g2 fi' fa' a1 a2 a3 => ?_, fun z' => absurd z z'⟩
    obtain rfl := nI_ij hi hi' (by omega) (ei.symm.trans ei')
    obtain rfl := nI_ij he he' (by omega) (ee.symm.trans ee')
    exact zKM.q c2 (by omega) hV hno a3.qs ((a3.1 34 (by decide) (by decide) (by decide)).trans (if_pos rfl)) a2 a1 (fun _ => rfl)
  · have hc0 : cd ≠ 0 := by rcases hs with ⟨rfl, -⟩ | ⟨rfl, -⟩ <;> decide
    refine mp_explainedBy (d := d + 1) hok hM' hV.1 hV.2.1 hV.2.2.1 ⟨fun h16 i' e' hi' he' ei' ee' => absurd (hc.symm.trans ?_) hc0, fun _ g2 a1 a2 => ?_⟩
    · unfold zxl
      rw [if_neg (fun z => z.elim (by rw [ei']; exact zIn_in hi' (by omega)) (by rw [ee']; exact zIn_in he' (by omega))), if_neg (by omega)]
    · rw [hc] at a1
      exact zKM.ex hR hV hno a2 a1 hc0
theorem pr_mend (hok : zOk X) (hb : b0 + 15000 * 64 + 20000 ≤ zz X) (hk : k < 64) (hD : 400 ≤ D) (hO : zOut o g) {cd0 : Int32} (I : zIw X x m b0 k cd0 g) : zPair X x m o b0 k yX1_mend wX1_mend yX3_mend wX3_mend [.int v, .int w] D (D + 1) g [(RJ9, 1), (RJ13, 2)] KX := by
  obtain ⟨d, rfl⟩ : ∃ d, D = d + 8 := ⟨D - 8, by omega⟩
  obtain ⟨fi, fa, adm, lg, M, P, np, sz, -, hR, hM, hV, hno⟩ := I
  have h80 := hV.1.2.1
  have hm6 := hV.2.2.1.1
  have h3 := hV.1.1
  have h20 := hV.2.2.1.2.1
  refine cs_mend hok hV hR (by omega) (by omega) (fun z i e hi he ei ee g1 c1 c2 => ⟨_, rfl, zPar.mk hO c1 hM (fun g1' hM' => ?_)⟩) (fun cd s hc hs => ⟨cd, by rcases hs with ⟨rfl, rfl⟩ | ⟨rfl, rfl⟩ <;> simp, zPar.mk hO (zFe.sz _) hM (fun g1' hM' => ?_)⟩)
  · refine mp_mend (d := d + 1) hok hM' hV.1 hV.2.1 hV.2.2.1 ⟨fun _ i' e' hi' he' ei' ee' g2 fi' fa' a1 a2 a3 => ?_, fun z' => absurd z z'⟩
    obtain rfl := nI_ij hi hi' (by omega) (ei.symm.trans ei')
    obtain rfl := nI_ij he he' (by omega) (ee.symm.trans ee')
    exact zKM.q c2 (by omega) hV hno a3.qs ((a3.1 34 (by decide) (by decide) (by decide)).trans (if_pos rfl)) a2 a1 (fun _ => rfl)
  · have hc0 : cd ≠ 0 := by rcases hs with ⟨rfl, -⟩ | ⟨rfl, -⟩ <;> decide
    refine mp_mend (d := d + 1) hok hM' hV.1 hV.2.1 hV.2.2.1 ⟨fun h16 i' e' hi' he' ei' ee' => absurd (hc.symm.trans ?_) hc0, fun _ g2 a1 a2 => ?_⟩
    · unfold zxl
      rw [if_neg (fun z => z.elim (by rw [ei']; exact zIn_in hi' (by omega)) (by rw [ee']; exact zIn_in he' (by omega))), if_neg (by omega)]
    · rw [hc] at a1
      exact zKM.ex hR hV hno a2 a1 hc0
theorem pr_mendedBy (hok : zOk X) (hb : b0 + 15000 * 64 + 20000 ≤ zz X) (hk : k < 64) (hD : 400 ≤ D) (hO : zOut o g) {cd0 : Int32} (I : zIw X x m b0 k cd0 g) : zPair X x m o b0 k yX1_mendedBy wX1_mendedBy yX3_mendedBy wX3_mendedBy [.int v, .int w, .int u] D (D + 1) g [(RJ9, 1), (RJ13, 2)] KX := by
  obtain ⟨d, rfl⟩ : ∃ d, D = d + 8 := ⟨D - 8, by omega⟩
  obtain ⟨fi, fa, adm, lg, M, P, np, sz, -, hR, hM, hV, hno⟩ := I
  have h80 := hV.1.2.1
  have hm6 := hV.2.2.1.1
  have h3 := hV.1.1
  have h20 := hV.2.2.1.2.1
  refine cs_mendedBy hok hV hR (by omega) (by omega) (fun z i e hi he ei ee g1 c1 c2 => ⟨_, rfl, zPar.mk hO c1 hM (fun g1' hM' => ?_)⟩) (fun cd s hc hs => ⟨cd, by rcases hs with ⟨rfl, rfl⟩ | ⟨rfl, rfl⟩ <;> simp, zPar.mk hO (zFe.sz _) hM (fun g1' hM' => ?_)⟩)
  · refine mp_mendedBy (d := d + 1) hok hM' hV.1 hV.2.1 hV.2.2.1 ⟨fun _ i' e' hi' he' ei' ee' g2 fi' fa' a1 a2 a3 => ?_, fun z' => absurd z z'⟩
    obtain rfl := nI_ij hi hi' (by omega) (ei.symm.trans ei')
    obtain rfl := nI_ij he he' (by omega) (ee.symm.trans ee')
    exact zKM.q c2 (by omega) hV hno a3.qs ((a3.1 34 (by decide) (by decide) (by decide)).trans (if_pos rfl)) a2 a1 (fun _ => rfl)
  · have hc0 : cd ≠ 0 := by rcases hs with ⟨rfl, -⟩ | ⟨rfl, -⟩ <;> decide
    refine mp_mendedBy (d := d + 1) hok hM' hV.1 hV.2.1 hV.2.2.1 ⟨fun h16 i' e' hi' he' ei' ee' => absurd (hc.symm.trans ?_) hc0, fun _ g2 a1 a2 => ?_⟩
    · unfold zxl
      rw [if_neg (fun z => z.elim (by rw [ei']; exact zIn_in hi' (by omega)) (by rw [ee']; exact zIn_in he' (by omega))), if_neg (by omega)]
    · rw [hc] at a1
      exact zKM.ex hR hV hno a2 a1 hc0
theorem pr_overOrders (hok : zOk X) (hb : b0 + 15000 * 64 + 20000 ≤ zz X) (hk : k < 64) (hD : 400 ≤ D) (hO : zOut o g) {cd0 : Int32} (I : zIw X x m b0 k cd0 g) : zPair X x m o b0 k yX1_overOrders wX1_overOrders yX3_overOrders wX3_overOrders [.int v, .int w, .int u] D (D + 1) g [(RJ9, 1), (RJ12, 2), (RJ13, 3)] KX := by
  obtain ⟨d, rfl⟩ : ∃ d, D = d + 8 := ⟨D - 8, by omega⟩
  obtain ⟨fi, fa, adm, lg, M, P, np, sz, -, hR, hM, hV, hno⟩ := I
  have h80 := hV.1.2.1
  have hm6 := hV.2.2.1.1
  have h3 := hV.1.1
  have h20 := hV.2.2.1.2.1
  refine cs_overOrders hok hV hno hR (by omega) (by omega) (fun i e hi he ei ee h2 hle g1 c1 c2 => ⟨_, rfl, zPar.mk hO c1 hM (fun g1' hM' => ?_)⟩) (fun s hs g1 c1 c2 => ?_)
  · refine mp_overOrders (d := d + 4) hok hM' hV.1 hV.2.1 hV.nd hV.2.2.1 (fun i' e' hi' he' ei' ee' _ _ g2 fi' fa' a1 a2 a3 => ?_) (fun c hc hc0 => absurd (hc.trans ?_) hc0)
    · obtain rfl := nI_ij hi hi' (by omega) (ei.symm.trans ei')
      obtain rfl := nI_ij he he' (by omega) (ee.symm.trans ee')
      exact zKM.q c2 (by omega) hV hno a3.qs ((a3.1 34 (by decide) (by decide) (by decide)).trans (if_pos rfl)) a2 a1 (fun _ => rfl)
    · rw [if_neg (fun z => z.elim (by rw [ei]; exact zIn_in hi (by omega)) (by rw [ee]; exact zIn_in he (by omega))), if_neg h2, if_pos hle]
  · have key : ∃ c : Int32, c = (if zIn v 0 (nI M - 1) = 0 ∨ zIn w 0 (nI lg.length - 1) = 0 then 1 else if zIn u 0 2 = 0 then 2 else if zoA fa lg ≤ 120 then 0 else 3) ∧ c ≠ 0 ∧ (s, c) ∈ [(RJ9, (1 : Int32)), (RJ12, 2), (RJ13, 3)] := by
      rcases hs with ⟨h1, rfl⟩ | ⟨h1, h2, rfl⟩ | ⟨h1, h2, h3, rfl⟩
      · exact ⟨1, by rw [if_pos h1], by decide, by simp⟩
      · exact ⟨2, by rw [if_neg h1, if_pos h2], by decide, by simp⟩
      · exact ⟨3, by rw [if_neg h1, if_neg h2, if_neg h3], by decide, by simp⟩
    obtain ⟨c, hc, hc0, hm⟩ := key
    refine ⟨c, hm, zPar.mk hO c1 hM (fun g1' hM' => ?_)⟩
    refine mp_overOrders (d := d + 4) hok hM' hV.1 hV.2.1 hV.nd hV.2.2.1 (fun i e hi he ei ee h2 hle => absurd (hc.trans ?_) hc0) (fun c' hc' _ g2 a1 a2 => ?_)
    · rw [if_neg (fun z => z.elim (by rw [ei]; exact zIn_in hi (by omega)) (by rw [ee]; exact zIn_in he (by omega))), if_neg h2, if_pos hle]
    · rw [hc'.trans hc.symm] at a1
      exact zKM.q34 c2 (by omega) hV hno a2 a1 (fun z => absurd z hc0)
theorem pr_scrap (hok : zOk X) (hb : b0 + 15000 * 64 + 20000 ≤ zz X) (hk : k < 64) (hD : 400 ≤ D) (hO : zOut o g) {cd0 : Int32} (I : zIw X x m b0 k cd0 g) : zPair X x m o b0 k yX1_scrap wX1_scrap yX3_scrap wX3_scrap [] D D g [] KX := by
  obtain ⟨d, rfl⟩ : ∃ d, D = d + 8 := ⟨D - 8, by omega⟩
  obtain ⟨fi, fa, adm, lg, M, P, np, sz, -, hR, hM, hV, hno⟩ := I
  have h80 := hV.1.2.1
  have hm6 := hV.2.2.1.1
  have h3 := hV.1.1
  have h20 := hV.2.2.1.2.1
  refine cs_scrap hok hV hR (by omega) (fun g1 c1 c2 c3 => ⟨_, rfl, zPar.mk hO c1 hM (fun g1' hM' => mp_scrap (d := d + 7) hok hM' (fun g2 a1 a2 => ⟨_, rfl, fun _ => hV.2.2.2.1.1, _, _, _, _, _, _, _, if_pos rfl, a2, a1, c2.mono (by omega), c3, hno⟩))⟩)
theorem pr_events (hok : zOk X) (hb : b0 + 15000 * 64 + 20000 ≤ zz X) (hk : k < 64) (hD : 400 ≤ D) (hO : zOut o g) {cd0 : Int32} (I : zIw X x m b0 k cd0 g) : zPair X x m o b0 k yX1_events wX1_events yX3_events wX3_events [] D D g [] KX := by
  obtain ⟨d, rfl⟩ : ∃ d, D = d + 8 := ⟨D - 8, by omega⟩
  obtain ⟨fi, fa, adm, lg, M, P, np, sz, -, hR, hM, hV, hno⟩ := I
  have h80 := hV.1.2.1
  have hm6 := hV.2.2.1.1
  have h3 := hV.1.1
  have h20 := hV.2.2.1.2.1
  exact cs_events hok hR (by omega) ⟨_, rfl, zPar.mk hO (zFe.rf _ _) hM (fun g1' hM' => mp_events (d := d + 7) hok hM' (fun g2 a1 a2 => zKM.q34 hR (by omega) hV hno a2 a1 (fun _ => h3)))⟩
theorem pr_dropped (hok : zOk X) (hb : b0 + 15000 * 64 + 20000 ≤ zz X) (hk : k < 64) (hD : 400 ≤ D) (hO : zOut o g) {cd0 : Int32} (I : zIw X x m b0 k cd0 g) : zPair X x m o b0 k yX1_dropped wX1_dropped yX3_dropped wX3_dropped [] D D g [] KX := by
  obtain ⟨d, rfl⟩ : ∃ d, D = d + 8 := ⟨D - 8, by omega⟩
  obtain ⟨fi, fa, adm, lg, M, P, np, sz, -, hR, hM, hV, hno⟩ := I
  have h80 := hV.1.2.1
  have hm6 := hV.2.2.1.1
  have h3 := hV.1.1
  have h20 := hV.2.2.1.2.1
  exact cs_dropped hok hR ⟨_, rfl, zPar.mk hO (zFe.rf _ _) hM (fun g1' hM' => mp_dropped (d := d + 7) hok hM' (fun g2 a1 a2 => zKM.q34 hR (by omega) hV hno a2 a1 (fun _ => rfl)))⟩
theorem pr_present (hok : zOk X) (hb : b0 + 15000 * 64 + 20000 ≤ zz X) (hk : k < 64) (hD : 400 ≤ D) (hO : zOut o g) {cd0 : Int32} (I : zIw X x m b0 k cd0 g) : zPair X x m o b0 k yX1_present wX1_present yX3_present wX3_present [] D D g [] KX := by
  obtain ⟨d, rfl⟩ : ∃ d, D = d + 8 := ⟨D - 8, by omega⟩
  obtain ⟨fi, fa, adm, lg, M, P, np, sz, -, hR, hM, hV, hno⟩ := I
  have h80 := hV.1.2.1
  have hm6 := hV.2.2.1.1
  have h3 := hV.1.1
  have h20 := hV.2.2.1.2.1
  exact cs_present hok hR ⟨_, rfl, zPar.mk hO (zFe.rf _ _) hM (fun g1' hM' => mp_present (d := d + 7) hok hM' (fun g2 a1 a2 => zKM.q34 hR (by omega) hV hno a2 a1 (fun _ => rfl)))⟩
theorem pr_parts (hok : zOk X) (hb : b0 + 15000 * 64 + 20000 ≤ zz X) (hk : k < 64) (hD : 400 ≤ D) (hO : zOut o g) {cd0 : Int32} (I : zIw X x m b0 k cd0 g) : zPair X x m o b0 k yX1_parts wX1_parts yX3_parts wX3_parts [] D D g [] KX := by
  obtain ⟨d, rfl⟩ : ∃ d, D = d + 8 := ⟨D - 8, by omega⟩
  obtain ⟨fi, fa, adm, lg, M, P, np, sz, -, hR, hM, hV, hno⟩ := I
  have h80 := hV.1.2.1
  have hm6 := hV.2.2.1.1
  have h3 := hV.1.1
  have h20 := hV.2.2.1.2.1
  exact cs_parts hok hV hR (by omega) (by omega) (fun g1 c1 c2 => ⟨_, rfl, zPar.mk hO c1 hM (fun g1' hM' => mp_parts (d := d + 7) hok hM' hV.2.2.1 (fun g2 a1 a2 => zKM.q34 c2 (by omega) hV hno a2 a1 (fun _ => rfl)))⟩)
theorem pr_orders (hok : zOk X) (hb : b0 + 15000 * 64 + 20000 ≤ zz X) (hk : k < 64) (hD : 400 ≤ D) (hO : zOut o g) {cd0 : Int32} (I : zIw X x m b0 k cd0 g) : zPair X x m o b0 k yX1_orders wX1_orders yX3_orders wX3_orders [] D D g [] KX := by
  obtain ⟨d, rfl⟩ : ∃ d, D = d + 8 := ⟨D - 8, by omega⟩
  obtain ⟨fi, fa, adm, lg, M, P, np, sz, -, hR, hM, hV, hno⟩ := I
  have h80 := hV.1.2.1
  have hm6 := hV.2.2.1.1
  have h3 := hV.1.1
  have h20 := hV.2.2.1.2.1
  exact cs_orders hok hV hno hR (by omega) (by omega) (fun g1 c1 c2 => ⟨_, rfl, zPar.mk hO c1 hM (fun g1' hM' => mp_orders (d := d + 6) hok hM' hV.1 hV.nd (fun g2 a1 a2 => zKM.q34 c2 (by omega) hV hno a2 a1 (fun _ => rfl)))⟩)
end PAIRS
