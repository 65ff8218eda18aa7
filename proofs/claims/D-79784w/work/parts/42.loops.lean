set_option maxRecDepth 100000
section LPS
variable {X : zX} {d : Nat} {g : zG} {K : Option Value → zG → Prop} {KX : String → zG → Prop} {m : Nat} {fi : Nat → Int32} {ad : Nat → Nat} {fa : Nat → Nat → Int32} {R : List Nat}
theorem mp_sinceAt_l (hok : zOk X) (hM : zMd g m fi ad fa) (hR : zRw fi fa R) {f l e : Nat} {b : Int32} (hf : f < 24) (hl : l < 24) (he : e < R.length) {E : zM} (C : zC X (d + 1) E RX3 cX3_sinceAt 8 (some .int) "sinceAt") (hQ : zQ X E K KX) : ∀ (c : Nat) (s a : Int32), c ≤ e + 1 → K (some (.int (zsin (fun k => znr (fa 7) R b k e) (ztb fa f) (ztb fa l) c s a))) g → GW X E 8 g 9 [(0, .ref m), (1, .int (nI f)), (2, .int (nI l)), (3, .int (nI e)), (4, .int b), (5, .int s), (6, .int a), (7, .int (nI c + (-1)))] []
  | 0, s, a, hc, hK => bX3_sinceAt_9 C hQ g m _ _ _ _ _ _ _ ⟨fun _ => hK, fun z => absurd (by decide) z⟩
  | c + 1, s, a, hc, hK => by
    have h80 := hR.2.1
    rw [pk_m1]
    refine bX3_sinceAt_9 C hQ g m _ _ _ _ _ _ _ ⟨fun z => absurd z (nI_pos (by omega)), fun _ => ⟨hM.is, mp_isNear hok hM hR (by omega) he (fun hn => ⟨1, rfl, Or.inr rfl, fun z => absurd z (by decide), fun _ => ⟨hM.is, mp_at hok hM hl (by omega) ⟨_, rfl, mp_and hok ⟨_, rfl, mp_or hok ⟨_, rfl, hM.is, mp_at hok hM hf (by omega) ⟨_, rfl, mp_and hok ⟨_, rfl, ?_⟩⟩⟩⟩⟩⟩⟩) (fun hn => ⟨0, rfl, Or.inl rfl, fun _ => ?_, fun z => absurd rfl z⟩)⟩⟩
    · refine mp_sinceAt_l hok hM hR hf hl he C hQ c _ _ (by omega) ?_
      unfold zsin at hK
      rw [if_pos hn] at hK
      exact hK
    · unfold zsin at hK
      rw [if_neg (by rw [hn]; decide)] at hK
      exact hK
theorem mp_sinceAt (hok : zOk X) (hM : zMd g m fi ad fa) (hR : zRw fi fa R) {f l e : Nat} {b : Int32} (hf : f < 24) (hl : l < 24) (he : e < R.length) (hK : K (some (.int (zsin (fun k => znr (fa 7) R b k e) (ztb fa f) (ztb fa l) (e + 1) 0 1))) g) : zCal X (d + 1) yX3_sinceAt wX3_sinceAt [.ref m, .int (nI f), .int (nI l), .int (nI e), .int b] g K KX := by
  refine mX3_sinceAt hok m _ _ _ _ (fun E C hQ => ?_)
  rw [show GW X E 8 g 9 [(0, .ref m), (1, .int (nI f)), (2, .int (nI l)), (3, .int (nI e)), (4, .int b), (5, .int 0), (6, .int 1), (7, .int (nI e))] [] = GW X E 8 g 9 [(0, .ref m), (1, .int (nI f)), (2, .int (nI l)), (3, .int (nI e)), (4, .int b), (5, .int 0), (6, .int 1), (7, .int (nI (e + 1) + (-1)))] [] by rw [pk_m1]]
  exact mp_sinceAt_l hok hM hR hf hl he C hQ _ _ _ (by omega) hK
theorem mp_onceAt_l (hok : zOk X) (hM : zMd g m fi ad fa) (hR : zRw fi fa R) {l e : Nat} {b : Int32} (hl : l < 24) (he : e < R.length) {E : zM} (C : zC X (d + 1) E RX3 cX3_onceAt 6 (some .int) "onceAt") (hQ : zQ X E K KX) : ∀ (c : Nat) (s : Int32), c ≤ e + 1 → K (some (.int (zonc (fun k => znr (fa 7) R b k e) (ztb fa l) c s))) g → GW X E 6 g 6 [(0, .ref m), (1, .int (nI l)), (2, .int (nI e)), (3, .int b), (4, .int s), (5, .int (nI c + (-1)))] []
  | 0, s, hc, hK => bX3_onceAt_6 C hQ g m _ _ _ _ _ ⟨fun _ => hK, fun z => absurd (by decide) z⟩
  | c + 1, s, hc, hK => by
    have h80 := hR.2.1
    rw [pk_m1]
    refine bX3_onceAt_6 C hQ g m _ _ _ _ _ ⟨fun z => absurd z (nI_pos (by omega)), fun _ => ⟨hM.is, mp_isNear hok hM hR (by omega) he (fun hn => ⟨1, rfl, Or.inr rfl, fun z => absurd z (by decide), fun _ => ⟨hM.is, mp_at hok hM hl (by omega) ⟨_, rfl, mp_or hok ⟨_, rfl, ?_⟩⟩⟩⟩) (fun hn => ⟨0, rfl, Or.inl rfl, fun _ => ?_, fun z => absurd rfl z⟩)⟩⟩
    · refine mp_onceAt_l hok hM hR hl he C hQ c _ (by omega) ?_
      unfold zonc at hK
      rw [if_pos hn] at hK
      exact hK
    · unfold zonc at hK
      rw [if_neg (by rw [hn]; decide)] at hK
      exact hK
theorem mp_onceAt (hok : zOk X) (hM : zMd g m fi ad fa) (hR : zRw fi fa R) {l e : Nat} {b : Int32} (hl : l < 24) (he : e < R.length) (hK : K (some (.int (zonc (fun k => znr (fa 7) R b k e) (ztb fa l) (e + 1) 0))) g) : zCal X (d + 1) yX3_onceAt wX3_onceAt [.ref m, .int (nI l), .int (nI e), .int b] g K KX := by
  refine mX3_onceAt hok m _ _ _ (fun E C hQ => ?_)
  rw [show GW X E 6 g 6 [(0, .ref m), (1, .int (nI l)), (2, .int (nI e)), (3, .int b), (4, .int 0), (5, .int (nI e))] [] = GW X E 6 g 6 [(0, .ref m), (1, .int (nI l)), (2, .int (nI e)), (3, .int b), (4, .int 0), (5, .int (nI (e + 1) + (-1)))] [] by rw [pk_m1]]
  exact mp_onceAt_l hok hM hR hl he C hQ _ _ (by omega) hK
theorem mp_manyAt_l (hok : zOk X) (hM : zMd g m fi ad fa) (hR : zRw fi fa R) {l e : Nat} {b n : Int32} (hl : l < 24) (he : e < R.length) {E : zM} (C : zC X (d + 1) E RX3 cX3_manyAt 8 (some .int) "manyAt") (hQ : zQ X E K KX) : ∀ (c : Nat) (s o : Int32), c ≤ e + 1 → K (some (.int (if (zmny (fun k => znr (fa 7) R b k e) (ztb fa l) c s o).1 < n then if (zmny (fun k => znr (fa 7) R b k e) (ztb fa l) c s o).2 < n then 0 else 2 else 1))) g → GW X E 8 g 9 [(0, .ref m), (1, .int (nI l)), (2, .int (nI e)), (3, .int n), (4, .int b), (5, .int s), (6, .int o), (7, .int (nI c + (-1)))] []
  | 0, s, o, hc, hK => by
    have fin : (s < n → (n ≤ o → K (some (.int 2)) g) ∧ (¬ n ≤ o → K (some (.int 0)) g)) ∧ (¬ s < n → K (some (.int 1)) g) := by
      refine ⟨fun c1 => ⟨fun c2 => ?_, fun c2 => ?_⟩, fun c1 => ?_⟩
      · unfold zmny at hK
        rw [if_pos c1, if_neg (Int32.not_lt.mpr c2)] at hK
        exact hK
      · unfold zmny at hK
        rw [if_pos c1, if_pos (Int32.not_le.mp c2)] at hK
        exact hK
      · unfold zmny at hK
        rw [if_neg c1] at hK
        exact hK
    exact bX3_manyAt_9 C hQ g m _ _ _ _ _ _ _ ⟨fun _ => fin, fun z => absurd (by decide) z⟩
  | c + 1, s, o, hc, hK => by
    have h80 := hR.2.1
    rw [pk_m1]
    refine bX3_manyAt_9 C hQ g m _ _ _ _ _ _ _ ⟨fun z => absurd z (nI_pos (by omega)), fun _ => ⟨hM.is, mp_isNear hok hM hR (by omega) he (fun hn => ⟨1, rfl, Or.inr rfl, fun z => absurd z (by decide), fun _ => ⟨hM.is, mp_at hok hM hl (by omega) ⟨_, rfl, fun c1 => ?_, fun c1 => ?_⟩⟩⟩) (fun hn => ⟨0, rfl, Or.inl rfl, fun _ => ?_, fun z => absurd rfl z⟩)⟩⟩
    · unfold zmny at hK
      rw [if_pos hn, if_neg c1] at hK
      refine bX3_manyAt_44 C hQ g m _ _ _ _ _ _ _ _ ⟨hM.is, mp_at hok hM hl (by omega) ⟨_, rfl, fun c2 => ?_, fun c2 => ?_⟩⟩
      · rw [if_neg c2] at hK
        exact mp_manyAt_l hok hM hR hl he C hQ c _ _ (by omega) hK
      · rw [if_pos c2] at hK
        exact mp_manyAt_l hok hM hR hl he C hQ c _ _ (by omega) hK
    · unfold zmny at hK
      rw [if_pos hn, if_pos c1] at hK
      refine bX3_manyAt_44 C hQ g m _ _ _ _ _ _ _ _ ⟨hM.is, mp_at hok hM hl (by omega) ⟨_, rfl, fun c2 => ?_, fun c2 => ?_⟩⟩
      · rw [if_neg c2] at hK
        exact mp_manyAt_l hok hM hR hl he C hQ c _ _ (by omega) hK
      · rw [if_pos c2] at hK
        exact mp_manyAt_l hok hM hR hl he C hQ c _ _ (by omega) hK
    · have hn' : ¬ znr (fa 7) R b c e = true := by
        rw [hn]
        decide
      unfold zmny at hK
      rw [if_neg hn'] at hK
      refine ⟨fun c1 => ⟨fun c2 => ?_, fun c2 => ?_⟩, fun c1 => ?_⟩
      · rw [if_pos c1, if_neg (Int32.not_lt.mpr c2)] at hK
        exact hK
      · rw [if_pos c1, if_pos (Int32.not_le.mp c2)] at hK
        exact hK
      · rw [if_neg c1] at hK
        exact hK
theorem mp_manyAt (hok : zOk X) (hM : zMd g m fi ad fa) (hR : zRw fi fa R) {l e : Nat} {b n : Int32} (hl : l < 24) (he : e < R.length) (hK : K (some (.int (if (zmny (fun k => znr (fa 7) R b k e) (ztb fa l) (e + 1) 0 0).1 < n then if (zmny (fun k => znr (fa 7) R b k e) (ztb fa l) (e + 1) 0 0).2 < n then 0 else 2 else 1))) g) : zCal X (d + 1) yX3_manyAt wX3_manyAt [.ref m, .int (nI l), .int (nI e), .int n, .int b] g K KX := by
  refine mX3_manyAt hok m _ _ _ _ (fun E C hQ => ?_)
  rw [show GW X E 8 g 9 [(0, .ref m), (1, .int (nI l)), (2, .int (nI e)), (3, .int n), (4, .int b), (5, .int 0), (6, .int 0), (7, .int (nI e))] [] = GW X E 8 g 9 [(0, .ref m), (1, .int (nI l)), (2, .int (nI e)), (3, .int n), (4, .int b), (5, .int 0), (6, .int 0), (7, .int (nI (e + 1) + (-1)))] [] by rw [pk_m1]]
  exact mp_manyAt_l hok hM hR hl he C hQ _ _ _ (by omega) hK
theorem mp_soonAt_l (hok : zOk X) (hM : zMd g m fi ad fa) (hR : zRw fi fa R) {l e : Nat} {b : Int32} (hl : l < 24) (he : e < R.length) {E : zM} (C : zC X (d + 1) E RX3 cX3_soonAt 6 (some .int) "soonAt") (hQ : zQ X E K KX) : ∀ (c k : Nat) (s : Int32), R.length = k + c → K (some (.int (zsoo (fun k => znr (fa 7) R b e k) (ztb fa l) c k s))) g → GW X E 6 g 19 [(0, .ref m), (1, .int (nI l)), (2, .int (nI e)), (3, .int b), (4, .int s), (5, .int (nI k))] []
  | 0, k, s, hc, hK => by
    have h80 := hR.2.1
    exact bX3_soonAt_19 C hQ g m _ _ _ _ _ ⟨_, _, hM.1, rfl, fun _ => hK, fun z => absurd (show fi 27 ≤ nI k by rw [hR.1]; exact nI_le (by omega) (by omega)) z⟩
  | c + 1, k, s, hc, hK => by
    have h80 := hR.2.1
    refine bX3_soonAt_19 C hQ g m _ _ _ _ _ ⟨_, _, hM.1, rfl, fun z => absurd z (by rw [hR.1]; exact nI_ge (by omega) (by omega)), fun _ => ⟨hM.is, mp_isNear hok hM hR he (by omega) (fun hn => ⟨1, rfl, Or.inr rfl, fun z => absurd z (by decide), fun _ => ⟨hM.is, mp_at hok hM hl (by omega) ⟨_, rfl, mp_or hok ⟨_, rfl, ?_⟩⟩⟩⟩) (fun hn => ⟨0, rfl, Or.inl rfl, fun _ => ?_, fun z => absurd rfl z⟩)⟩⟩
    · rw [← nI_succ]
      refine mp_soonAt_l hok hM hR hl he C hQ c (k + 1) _ (by omega) ?_
      unfold zsoo at hK
      rw [if_pos hn] at hK
      exact hK
    · unfold zsoo at hK
      rw [if_neg (by rw [hn]; decide)] at hK
      exact hK
theorem mp_soonAt (hok : zOk X) (hM : zMd g m fi ad fa) (hR : zRw fi fa R) {l e : Nat} {b : Int32} (hl : l < 24) (he : e < R.length) (hK : K (some (.int (zsoo (fun k => znr (fa 7) R b e k) (ztb fa l) (R.length - e) e (if zop (fi 2) (fi 5) (fa 7) R b e = true then 2 else 0)))) g) : zCal X (d + 1) yX3_soonAt wX3_soonAt [.ref m, .int (nI l), .int (nI e), .int b] g K KX := by
  refine mX3_soonAt hok m _ _ _ (fun E C hQ => ⟨hM.is, mp_isOpenFor hok hM hR he (fun hn => ⟨1, rfl, Or.inr rfl, fun z => absurd z (by decide), fun _ => ?_⟩) (fun hn => ⟨0, rfl, Or.inl rfl, fun _ => ?_, fun z => absurd rfl z⟩)⟩)
  · rw [if_pos hn] at hK
    exact mp_soonAt_l hok hM hR hl he C hQ _ e _ (by omega) hK
  · rw [if_neg (by rw [hn]; decide)] at hK
    exact mp_soonAt_l hok hM hR hl he C hQ _ e _ (by omega) hK
theorem mp_untilAt_l (hok : zOk X) (hM : zMd g m fi ad fa) (hR : zRw fi fa R) {f l e : Nat} {b : Int32} (hf : f < 24) (hl : l < 24) (he : e < R.length) {E : zM} (C : zC X (d + 1) E RX3 cX3_untilAt 8 (some .int) "untilAt") (hQ : zQ X E K KX) : ∀ (c k : Nat) (s a : Int32), R.length = k + c → K (some (.int (if zop (fi 2) (fi 5) (fa 7) R b e = true then zOr (zunt (fun k => znr (fa 7) R b e k) (ztb fa f) (ztb fa l) c k s a).1 (zAnd 2 (zunt (fun k => znr (fa 7) R b e k) (ztb fa f) (ztb fa l) c k s a).2) else (zunt (fun k => znr (fa 7) R b e k) (ztb fa f) (ztb fa l) c k s a).1))) g → GW X E 8 g 9 [(0, .ref m), (1, .int (nI f)), (2, .int (nI l)), (3, .int (nI e)), (4, .int b), (5, .int s), (6, .int a), (7, .int (nI k))] []
  | 0, k, s, a, hc, hK => by
    have h80 := hR.2.1
    refine bX3_untilAt_9 C hQ g m _ _ _ _ _ _ _ ⟨_, _, hM.1, rfl, fun _ => ⟨hM.is, mp_isOpenFor hok hM hR he (fun hn => ⟨1, rfl, Or.inr rfl, fun z => absurd z (by decide), fun _ => mp_and hok ⟨_, rfl, mp_or hok ⟨_, rfl, ?_⟩⟩⟩) (fun hn => ⟨0, rfl, Or.inl rfl, fun _ => ?_, fun z => absurd rfl z⟩)⟩, fun z => absurd (show fi 27 ≤ nI k by rw [hR.1]; exact nI_le (by omega) (by omega)) z⟩
    · rw [if_pos hn] at hK
      exact hK
    · rw [if_neg (by rw [hn]; decide)] at hK
      exact hK
  | c + 1, k, s, a, hc, hK => by
    have h80 := hR.2.1
    refine bX3_untilAt_9 C hQ g m _ _ _ _ _ _ _ ⟨_, _, hM.1, rfl, fun z => absurd z (by rw [hR.1]; exact nI_ge (by omega) (by omega)), fun _ => ⟨hM.is, mp_isNear hok hM hR he (by omega) (fun hn => ⟨1, rfl, Or.inr rfl, fun z => absurd z (by decide), fun _ => ⟨hM.is, mp_at hok hM hl (by omega) ⟨_, rfl, mp_and hok ⟨_, rfl, mp_or hok ⟨_, rfl, ?_⟩⟩⟩⟩⟩) (fun hn => ⟨0, rfl, Or.inl rfl, fun _ => ?_, fun z => absurd rfl z⟩)⟩⟩
    · refine bX3_untilAt_52 C hQ g m _ _ _ _ _ _ _ ⟨hM.is, mp_at hok hM hf (by omega) ⟨_, rfl, mp_and hok ⟨_, rfl, ?_⟩⟩⟩
      rw [← nI_succ]
      refine mp_untilAt_l hok hM hR hf hl he C hQ c (k + 1) _ _ (by omega) ?_
      unfold zunt at hK
      rw [if_pos hn] at hK
      exact hK
    · refine bX3_untilAt_52 C hQ g m _ _ _ _ _ _ _ ⟨hM.is, mp_at hok hM hf (by omega) ⟨_, rfl, mp_and hok ⟨_, rfl, ?_⟩⟩⟩
      rw [← nI_succ]
      refine mp_untilAt_l hok hM hR hf hl he C hQ c (k + 1) _ _ (by omega) ?_
      unfold zunt at hK
      have hn' : ¬ (fun k => znr (fa 7) R b e k) k = true := by
        show ¬ znr (fa 7) R b e k = true
        rw [hn]
        decide
      rw [if_neg hn'] at hK
      exact hK
theorem mp_untilAt (hok : zOk X) (hM : zMd g m fi ad fa) (hR : zRw fi fa R) {f l e : Nat} {b : Int32} (hf : f < 24) (hl : l < 24) (he : e < R.length) (hK : K (some (.int (if zop (fi 2) (fi 5) (fa 7) R b e = true then zOr (zunt (fun k => znr (fa 7) R b e k) (ztb fa f) (ztb fa l) (R.length - e) e 0 1).1 (zAnd 2 (zunt (fun k => znr (fa 7) R b e k) (ztb fa f) (ztb fa l) (R.length - e) e 0 1).2) else (zunt (fun k => znr (fa 7) R b e k) (ztb fa f) (ztb fa l) (R.length - e) e 0 1).1))) g) : zCal X (d + 1) yX3_untilAt wX3_untilAt [.ref m, .int (nI f), .int (nI l), .int (nI e), .int b] g K KX := by
  refine mX3_untilAt hok m _ _ _ _ (fun E C hQ => ?_)
  exact mp_untilAt_l hok hM hR hf hl he C hQ _ _ _ _ (by omega) hK
end LPS
