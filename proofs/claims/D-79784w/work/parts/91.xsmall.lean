set_option maxRecDepth 100000
/-- the events that have come -/
def zEv (X : zX) (ad eo : Nat → Nat) (n : Nat) (fa : Nat → Nat → Int32) (p : Nat) (g : zG) : Prop := zLs X g 64 (ad 2) ((List.range n).map eo) p ∧ ∀ v : Nat, v < n → zGo g 4 (eo v) = some (zef fa v)
theorem zEv.fe {X : zX} {ad eo : Nat → Nat} {n : Nat} {fa : Nat → Nat → Int32} {p : Nat} {P : Nat → Prop} {g g' : zG} (h : zEv X ad eo n fa p g) (e : zFe P g g') (h1 : ¬ P 64) (h2 : ¬ P 4) : zEv X ad eo n fa p g' := ⟨h.1.fe e h1, fun v hv => e.1 4 h2 _ _ (h.2 v hv)⟩
theorem zr_range {n p : Nat} (h : p < n) : zr (List.range n) p = p := by
  unfold zr
  rw [List.getD_eq_getElem?_getD, List.getElem?_range h]
  rfl
section XSM
variable {X : zX} {d : Nat} {g : zG} {K : Option Value → zG → Prop} {KX : String → zG → Prop} {x : Nat} {ad eo : Nat → Nat} {n : Nat} {fi : Nat → Int32} {fa : Nat → Nat → Int32} {p : Nat}
theorem cx_ids_l (hok : zOk X) (hn : n ≤ 80) (hx : zGo g 1 x = some (zxs ad fi)) (hE : zEv X ad eo n fa p g) {E : zM} (C : zC X (d + 3) E RX1 cX1_ids 3 (some .int) "ids") (hQ : zQ X E K KX) (hK : K (some (.int (zid fa n))) g) : ∀ (c k : Nat), n = k + c → GW X E 3 g 4 [(0, .ref x), (1, .int (zid fa k)), (2, .int (nI k))] []
  | 0, k, hk => by
    have : n = k := by omega
    subst this
    refine bX1_ids_4 (d := d + 2) C hQ g _ _ _ ⟨_, _, hx, rfl, hE.1.is (by omega), ls_size hok hE.1 (by omega) ⟨_, rfl, fun _ => hK, fun z => absurd (show nI (((List.range n).map eo).length) ≤ nI n by rw [List.length_map, List.length_range]; exact Int32.le_refl _) z⟩⟩
  | c + 1, k, hk => by
    have hkn : k < n := by omega
    have hev := hE.2 k hkn
    have gt : ∀ {K' : Option Value → zG → Prop}, K' (some (.ref (eo k))) g → zCal X (d + 2) yJ2_get wJ2_get [.ref (ad 2), .int (nI k)] g K' KX := fun h => ls_getm (d := d) hok hE.1 (by omega) (by rw [List.length_range]; exact hkn) (by rw [zr_range hkn]; exact h)
    have go : GW X E 3 g 4 [(0, .ref x), (1, .int (zid fa (k + 1))), (2, .int (nI k + 1))] [] := by
      rw [← nI_succ]
      exact cx_ids_l hok hn hx hE C hQ hK c (k + 1) (by omega)
    refine bX1_ids_4 (d := d + 2) C hQ g _ _ _ ⟨_, _, hx, rfl, hE.1.is (by omega), ls_size hok hE.1 (by omega) ⟨_, rfl, fun z => absurd z (by rw [List.length_map, List.length_range]; exact nI_ge (by omega) (by omega)), fun _ => ⟨_, _, hx, rfl, hE.1.is (by omega), gt ⟨_, rfl, _, rfl, ⟨4, _, hev, rfl⟩, _, _, hev, rfl, fun c1 => ⟨_, _, hx, rfl, hE.1.is (by omega), gt ⟨_, rfl, _, rfl, ⟨4, _, hev, rfl⟩, _, _, hev, rfl, ?_⟩⟩, fun c1 => ?_⟩⟩⟩⟩
    · have e : zid fa (k + 1) = zid fa k ||| ((1 : Int32) <<< (fa 9 k &&& 31)) := by
        show zid fa k ||| (if fa 9 k = -1 then (0 : Int32) else (1 : Int32) <<< (fa 9 k &&& 31)) = _
        rw [if_neg c1]
      rw [← e]
      exact go
    · have e : zid fa (k + 1) = zid fa k ||| 0 := by
        show zid fa k ||| (if fa 9 k = -1 then (0 : Int32) else (1 : Int32) <<< (fa 9 k &&& 31)) = _
        rw [if_pos c1]
      rw [← e]
      exact go
theorem cx_ids (hok : zOk X) (hn : n ≤ 80) (hx : zGo g 1 x = some (zxs ad fi)) (hE : zEv X ad eo n fa p g) {D : Nat} (hD : 3 ≤ D) (hK : K (some (.int (zid fa n))) g) : zCal X D yX1_ids wX1_ids [.ref x] g K KX := by
  obtain ⟨d, rfl⟩ : ∃ d, D = d + 3 := ⟨D - 3, by omega⟩
  refine mX1_ids (d := d + 2) hok x (fun E C hQ => ?_)
  rw [show (GW X E 3 g 4 [(0, .ref x), (1, .int 0), (2, .int 0)] []) = (GW X E 3 g 4 [(0, .ref x), (1, .int (zid fa 0)), (2, .int (nI 0))] []) by rw [nI_0]; rfl]
  exact cx_ids_l (d := d) hok hn hx hE C hQ hK n 0 (by omega)
theorem cx_isIn (hok : zOk X) {a b c : Int32} (hK : K (some (.int (zIn a b c))) g) : zCal X d yX1_isIn wX1_isIn [.int a, .int b, .int c] g K KX := by
  unfold zIn at hK
  refine mX1_isIn hok a b c ⟨fun h => ?_, fun h => ⟨fun h2 => ?_, fun h2 => ?_⟩⟩
  · rw [if_pos h] at hK; exact hK
  · rw [if_neg h, if_pos h2] at hK; exact hK
  · rw [if_neg h, if_neg h2] at hK; exact hK
theorem zIn_bo (a b c : Int32) : zbo (zIn a b c) := by
  unfold zIn
  split
  · exact Or.inl rfl
  · split
    · exact Or.inl rfl
    · exact Or.inr rfl
theorem cx_isNode (hok : zOk X) {a : Int32} (hK : K (some (.int (zIn a 0 3))) g) : zCal X (d + 1) yX1_isNode wX1_isNode [.int a] g K KX := mX1_isNode hok a (cx_isIn hok ⟨_, rfl, zIn_bo _ _ _, zIn_bo _ _ _, hK⟩)
theorem cx_isBound (hok : zOk X) {a : Int32} (hK : K (some (.int (zIn a (-1) 1000))) g) : zCal X (d + 1) yX1_isBound wX1_isBound [.int a] g K KX := mX1_isBound hok a (cx_isIn hok ⟨_, rfl, zIn_bo _ _ _, zIn_bo _ _ _, hK⟩)
/-- isAhead, of one that comes later by its number -/
theorem cx_isAhead (hok : zOk X) {a v n : Nat} {wh nd d3 d4 d5 d6 : Int32} {b : Nat} (ha : zGo g 4 a = some [.int (nI n), .int wh, .int nd, .int d3, .int d4, .int d5, .int d6]) (hb : zGo g 4 b = some (zef fa v)) (hv : v < n) (hn : n ≤ 80) (hK : K (some (.int (zbI (zah fa nd wh v)))) g) : zCal X d yX4_isAhead wX4_isAhead [.ref a, .ref b] g K KX := by
  have hbI : ∀ (t : Bool), zah fa nd wh v = t → K (some (.int (zbI t))) g := fun t h => by rw [← h]; exact hK
  refine mX4_isAhead hok a b ⟨_, _, ha, rfl, _, _, hb, rfl, fun c1 => ⟨_, _, ha, rfl, _, _, hb, rfl, fun c2 => ⟨_, _, ha, rfl, _, _, hb, rfl, fun _ => ?_, fun z => absurd (nI_le (by omega) (by omega)) z⟩, fun c2 => ⟨_, _, ha, rfl, _, _, hb, rfl, fun c3 => ?_, fun c3 => ?_⟩⟩, fun c1 => ⟨_, _, ha, rfl, _, _, hb, rfl, fun c3 => ?_, fun c3 => ?_⟩⟩
  · exact hbI false (by unfold zah; rw [← c1, ← c2]; simp [Int32.lt_irrefl])
  · exact hbI false (by
      unfold zah
      rw [← c1, decide_eq_false (show ¬ nd < fa 6 v from Int32.not_lt.mpr c3)]
      simp [Int32.lt_irrefl])
  · exact hbI true (by
      unfold zah
      rw [← c1, decide_eq_true (show nd < fa 6 v from Int32.not_le.mp c3)]
      simp)
  · exact hbI false (by
      unfold zah
      rw [decide_eq_false (Int32.not_lt.mpr c3), beq_eq_false_iff_ne.mpr (fun z => c1 z.symm)]
      rfl)
  · exact hbI true (by
      unfold zah
      rw [decide_eq_true (Int32.not_le.mp c3)]
      rfl)
theorem cx_insert_l (hok : zOk X) {tl al a n q : Nat} {lg : List Nat} {wh nd d3 d4 d5 d6 : Int32} (htl : 64 ≤ tl) (ha : zGo g 4 a = some [.int (nI n), .int wh, .int nd, .int d3, .int d4, .int d5, .int d6]) (hL : zLs X g tl al (lg.map eo) q) (hE : ∀ v ∈ lg, zGo g 4 (eo v) = some (zef fa v)) (hv : ∀ v ∈ lg, v < n) (hn : n ≤ 80) (h80 : lg.length ≤ 80) (hz : zGz g + q + 400 ≤ zz X) {E : zM} (C : zC X (d + 7) E RX1 cX1_insert 3 none "insert") (hQ : zQ X E K KX)
    (hK : ∀ (g' : zG) (q' : Nat), zLs X g' tl al ((lg.map eo).insertIdx (zpc fa lg nd wh) a) q' → zFm tl g g' → zGz g' + q' ≤ zGz g + q → K none g') : ∀ (k : Nat), k ≤ lg.length → zpl (fun k => zah fa nd wh (zr lg k)) k = zpc fa lg nd wh → GW X E 3 g 7 [(0, .ref al), (1, .ref a), (2, .int (nI k))] []
  | k, hk, hp => by
    have hob : ∀ y ∈ lg.map eo, zob g y := fun y hy => by
      obtain ⟨v, hv, rfl⟩ := List.mem_map.mp hy
      exact zob_e (hE v hv)
    have put : k = zpc fa lg nd wh → zIs g 0 al ∧ zCal X (d + 6) yJ2_add_3 wJ2_add_3 [.ref al, .int (nI k), .ref a] g (fun r g_1 => r = none ∧ K none g_1) KX := fun e => ⟨hL.is htl, ls_insert (d := d) hok hL htl (zob_e ha) hob (by rw [List.length_map]; omega) (by rw [List.length_map]; exact hk) hz (fun g' q' b1 b2 b3 => ⟨rfl, hK g' q' (by rw [← e]; exact b1) b2 b3⟩)⟩
    match k, hk, hp, put with
    | 0, hk, hp, put => exact bX1_insert_7 (d := d + 6) C hQ g _ _ _ ⟨fun _ => put hp, fun z => absurd (show nI 0 ≤ 0 by decide) z⟩
    | k + 1, hk, hp, put =>
      have hkl : k < lg.length := by omega
      have hev := hE _ (zr_mem hkl)
      refine bX1_insert_7 (d := d + 6) C hQ g _ _ _ ⟨fun z => absurd z (nI_nle (by omega) (by omega)), fun _ => ⟨hL.is htl, ?_⟩⟩
      rw [nI_pred, pk_m1]
      refine ls_getm (d := d + 4) hok hL htl hkl ⟨_, rfl, _, rfl, ⟨4, _, hev, rfl⟩, ⟨4, _, ha, rfl⟩, cx_isAhead hok ha hev (hv _ (zr_mem hkl)) hn ?_⟩
      by_cases c : zah fa nd wh (zr lg k) = true
      · rw [c]
        refine ⟨_, rfl, Or.inr rfl, fun z => absurd z (by decide), fun _ => ?_⟩
        exact cx_insert_l hok htl ha hL hE hv hn h80 hz C hQ hK k (by omega) (by rw [← hp]; exact (zpl_t (b := fun k => zah fa nd wh (zr lg k)) c).symm)
      · have cf : zah fa nd wh (zr lg k) = false := by simpa using c
        rw [cf]
        refine ⟨_, rfl, Or.inl rfl, fun _ => put (by rw [← hp]; exact (zpl_f (b := fun k => zah fa nd wh (zr lg k)) cf).symm), fun z => absurd rfl z⟩
/-- insert: the place of the model -/
theorem cx_insert (hok : zOk X) {tl al a n q : Nat} {lg : List Nat} {wh nd d3 d4 d5 d6 : Int32} (htl : 64 ≤ tl) (ha : zGo g 4 a = some [.int (nI n), .int wh, .int nd, .int d3, .int d4, .int d5, .int d6]) (hL : zLs X g tl al (lg.map eo) q) (hE : ∀ v ∈ lg, zGo g 4 (eo v) = some (zef fa v)) (hv : ∀ v ∈ lg, v < n) (hn : n ≤ 80) (h80 : lg.length ≤ 80) (hz : zGz g + q + 400 ≤ zz X) {D : Nat} (hD : 7 ≤ D)
    (hK : ∀ (g' : zG) (q' : Nat), zLs X g' tl al ((lg.map eo).insertIdx (zpc fa lg nd wh) a) q' → zFm tl g g' → zGz g' + q' ≤ zGz g + q → K none g') : zCal X D yX1_insert wX1_insert [.ref al, .ref a] g K KX := by
  obtain ⟨d, rfl⟩ : ∃ d, D = d + 7 := ⟨D - 7, by omega⟩
  refine mX1_insert (d := d + 6) hok al a (fun E C hQ => ⟨hL.is htl, ls_size hok hL htl ⟨_, rfl, ?_⟩⟩)
  rw [List.length_map]
  exact cx_insert_l (d := d) hok htl ha hL hE hv hn h80 hz C hQ hK lg.length (Nat.le_refl _) rfl
end XSM
