set_option maxRecDepth 100000
section CLS
variable {X : zX} {d : Nat} {x : Nat} {ad fo eo : Nat → Nat} {mo : Nat → Nat → Nat} {c : Nat → Nat × Nat × Nat} {pt pt' : Nat → Nat} {fi fi' : Nat → Int32} {fa fa' : Nat → Nat → Int32} {lg : List Nat} {M P : Nat} {np sz : Nat → Nat} {B : Nat} {g g' : zG} {Q : Nat → Prop} {K : Option Value → zG → Prop} {KX : String → zG → Prop}
theorem cs_greatestByAll (hok : zOk X) (hV : zPv fi fa lg M P np sz) (hR : zRR X x fi fa lg M P np sz B g) (hB : B + 3000 ≤ zz X) {kd a b : Int32} {D : Nat} (hD : 120 ≤ D)
    (h1 : zok3 kd a b = true → ∀ g' : zG, zFe zPc g g' → zRR X x fi fa lg M P np sz (B + 2000) g' → K (some (.int (zgt fa kd a b lg.length))) g') (hx : zok3 kd a b = false → KX RJ12 (zSz g (zGz g + 7))) : zCal X D yX1_greatestByAll wX1_greatestByAll [.ref x, .int kd, .int a, .int b] g K KX := by
  obtain ⟨d, rfl⟩ : ∃ d, D = d + 8 := ⟨D - 8, by omega⟩
  obtain ⟨ad, fo, eo, mo, c, pt, hW, hJ, hz⟩ := hR
  have hM6 := hV.2.2.1.1
  have h80 := hV.1.2.1
  obtain ⟨w1, -, w3, -⟩ := id hW.1
  have ch : zok3 kd a b = false → zCal X (d + 7) yX1_check wX1_check [.int 0] g (fun r g_3 => r = none ∧ False) KX := fun h => sp_check (d := d + 1) hok (fun z => absurd rfl z) (fun _ => ⟨by omega, hx h⟩)
  refine mX1_greatestByAll (d := d + 7) hok x _ _ _ (fun E C hQ => cx_isIn hok ⟨_, rfl, zIn_bo _ _ _, fun z1 => ch (by unfold zok3; simp [z1]), fun n1 => cx_isIn hok ⟨_, rfl, zIn_bo _ _ _, fun z2 => ch (by unfold zok3; simp [z2]), fun n2 => cx_isIn hok ⟨_, rfl, zIn_bo _ _ _, fun z3 => ch (by unfold zok3; simp [z3]), fun n3 => ?_⟩⟩⟩)
  have hok3 : zok3 kd a b = true := by
    unfold zok3
    simp [n1, n2, n3]
  obtain ⟨mc, cap, hL, -⟩ := w3.1
  refine sp_check (d := d + 1) hok (fun _ => ⟨rfl, _, _, w1, rfl, hL.is (by omega), it_iterator hok hL (by omega) (by omega) (by omega) (fun q g1 _ a1 a2 a3 => ⟨q, rfl, ?_⟩)⟩) (fun z => absurd z (by decide))
  refine cs_greatestByAll_l (d := d + 5) (g0 := g1) (eo := eo) hok h80 C hQ (fun g2 b1 b2 => ?_) lg.length 0 g1 (by omega) (zFe.rf _ _) rfl (hL.fe a2 id) (fun v hv => a2.1 4 id _ _ (w3.2 v hv)) a1
  have e : zFe (fun k => k = 11) g g2 := (a2.mono (fun _ h => h.elim)).trans b1
  exact h1 hok3 g2 (e.mono (fun k hk => by unfold zPc; omega)) ⟨ad, fo, eo, mo, c, pt, ⟨hW.1.fe e (fun k _ _ _ _ h => h) (fun k _ _ => by omega) (by omega) (by omega), fun i hi => (hW.2 i hi).fe (by omega) e (fun k _ _ h => h) (by omega) (by omega) (by omega) (by omega)⟩, hJ, by omega⟩
/-- how many answers are open -/
def zoM1 (fa : Nat → Nat → Int32) (n i : Nat) : Nat → Int32
  | 0 => 0
  | k + 1 => zoM1 fa n i k + (if fa 25 (80 * i + k) = 2 then 1 else 0)
def zoM (fa : Nat → Nat → Int32) (n : Nat) : Nat → Int32
  | 0 => 0
  | k + 1 => zoM fa n k + zoM1 fa n k n
/-- what the openMany loops leave: iterators only -/
theorem cx_openMany_i (hok : zOk X) {i n : Nat} {al : Nat} {l : List Nat} (hl : l.length = n) (hn : n ≤ 80) {mc : Int32} {cap : Nat} {q q1 : Nat} {s0 : Int32} {E : zM} (C : zC X (d + 3) E RX1 cX1_openMany 6 (some .int) "openMany") (hQ : zQ X E K KX) {g0 : zG} (hi : i < 6)
    (hK : ∀ g2 : zG, zFe (fun k => k = 11) g0 g2 → (∀ b, b ≠ q → zGo g2 11 b = zGo g0 11 b) → zGz g2 = zGz g0 → GW X E 6 g2 12 [(1, .int (s0 + zoM1 fa n i n)), (2, .ref q1)] []) : ∀ (cc k : Nat) (g : zG), n = k + cc → zFe (fun k => k = 11) g0 g → (∀ b, b ≠ q → zGo g 11 b = zGo g0 11 b) → zGz g = zGz g0 → zL X g (81 + 3 * i) al mc l cap → (∀ v, v < n → zPw X g (zr l v) (fa 25 (80 * i + v)) (fa 26 (80 * i + v))) → zIt g q al k mc →
    GW X E 6 g 42 [(1, .int (s0 + zoM1 fa n i k)), (2, .ref q1), (4, .ref q)] []
  | 0, k, g, hk, hF, hb, hz, hL, hp, hI => by
    have : k = n := by omega
    subst this
    refine bX1_openMany_42 (d := d + 2) C hQ g _ _ _ ⟨hI.is, sp_hasNext hok hL (by omega) hI (by omega) (fun _ => ⟨0, rfl, Or.inl rfl, fun _ => hK g hF hb hz, fun z => absurd rfl z⟩) (fun z => absurd z (by omega))⟩
  | cc + 1, k, g, hk, hF, hb, hz, hL, hp, hI => by
    refine bX1_openMany_42 (d := d + 2) C hQ g _ _ _ ⟨hI.is, sp_hasNext hok hL (by omega) hI (by omega) (fun z => absurd z (by omega)) (fun _ => ⟨1, rfl, Or.inr rfl, fun z => absurd z (by decide), fun _ => ⟨hI.is, it_next' hok hL (by omega) hI (by omega) (by omega) (fun g1 a1 a2 a3 a4 => ?_)⟩⟩)⟩
    obtain ⟨j1, j2, p1, p2, p3, p4, p5⟩ := (hp k (by omega)).fe a2 (by omega)
    have on : ∀ w, w = s0 + zoM1 fa n i (k + 1) → GW X E 6 g1 42 [(1, .int w), (2, .ref q1), (4, .ref q)] [] := fun w hw => by
      rw [hw]
      exact cx_openMany_i hok hl hn C hQ hi hK cc (k + 1) g1 (by omega) (hF.trans a2) (fun b hb' => (a3 b hb').trans (hb b hb')) (a4.trans hz) (hL.fe a2 (by omega)) (fun v hv => (hp v hv).fe a2 (by omega)) a1
    refine ⟨_, rfl, _, rfl, ⟨6, _, p5, rfl⟩, _, _, p5, rfl, ⟨j1 + 128, by omega, rfl⟩, j1 + 128, by omega, rfl, fun v9 e9 => ?_⟩
    rw [vb_j, ← p3] at e9
    subst e9
    have e : s0 + zoM1 fa n i (k + 1) = s0 + zoM1 fa n i k + (if fa 25 (80 * i + k) = 2 then 1 else 0) := (Int32.add_assoc _ _ _).symm
    refine ⟨fun c1 => on _ ?_, fun c1 => on _ ?_⟩
    · rw [e, if_neg c1]
    · rw [e, if_pos c1]
theorem cx_openMany_l (hok : zOk X) (hM6 : M ≤ 6) {n : Nat} (hn : n ≤ 80) {mc : Int32} {cap : Nat} {q1 : Nat} {E : zM} (C : zC X (d + 3) E RX1 cX1_openMany 6 (some .int) "openMany") (hQ : zQ X E K KX) {g0 : zG} {B : Nat} (hB : B + 100 ≤ zz X)
    (hK : ∀ g2 : zG, zFe (fun k => k = 11) g0 g2 → zGz g2 ≤ B → K (some (.int (zoM fa n M))) g2) : ∀ (cc k : Nat) (g : zG), M = k + cc → zFe (fun k => k = 11) g0 g → zGz g + 5 * cc ≤ B → zL X g 68 (ad 9) mc ((List.range M).map (fun i => mo i 0)) cap → (∀ i, i < M → zWm X x ad (mo i) fo pt fi fa n (np i) i g) → zIt g q1 (ad 9) k mc →
    GW X E 6 g 12 [(1, .int (zoM fa n k)), (2, .ref q1)] []
  | 0, k, g, hk, hF, hz, hL, hm, hI => by
    have : M = k := by omega
    subst this
    refine bX1_openMany_12 (d := d + 2) C hQ g _ _ ⟨hI.is, sp_hasNext hok hL (by omega) hI (by rw [List.length_map, List.length_range]; omega) (fun _ => ⟨0, rfl, Or.inl rfl, fun _ => hK g hF (by omega), fun z => absurd rfl z⟩) (fun z => absurd z (by rw [List.length_map, List.length_range]; omega))⟩
  | cc + 1, k, g, hk, hF, hz, hL, hm, hI => by
    have hkM : k < M := by omega
    have hlen : ((List.range M).map (fun i => mo i 0)).length = M := by rw [List.length_map, List.length_range]
    have hzr : zr ((List.range M).map (fun i => mo i 0)) k = mo k 0 := by
      rw [zr_el (by omega), List.getElem_map, List.getElem_range]
    refine bX1_openMany_12 (d := d + 2) C hQ g _ _ ⟨hI.is, sp_hasNext hok hL (by omega) hI (by omega) (fun z => absurd z (by omega)) (fun _ => ⟨1, rfl, Or.inr rfl, fun z => absurd z (by decide), fun _ => ⟨hI.is, it_next' hok hL (by omega) hI (by omega) (by omega) (fun g1 a1 a2 a3 a4 => ?_)⟩⟩)⟩
    rw [hzr]
    have hm1 : ∀ i, i < M → zWm X x ad (mo i) fo pt fi fa n (np i) i g1 := fun i hi => (hm i hi).fe (by omega) a2 (fun k _ _ h => h) (by omega) (by omega) (by omega) (by omega)
    obtain ⟨m1, m2, l, l1, l2, l3⟩ := hm1 k hkM
    obtain ⟨mck, capk, lk, -⟩ := l2
    refine ⟨_, rfl, _, rfl, ⟨8, _, m1.1, rfl⟩, _, _, m1.1, rfl, lk.is (by omega), it_iterator hok lk (by omega) (by omega) (by omega) (fun q g2 bf b1 b2 b3 => ⟨q, rfl, ?_⟩)⟩
    have a1' := a1.fe b2 id
    have hne : q1 ≠ q := fun z => by
      obtain ⟨u, hu⟩ := a1
      rw [z, bf.1 11] at hu
      cases hu
    have := cx_openMany_i (d := d) (fa := fa) (n := n) (i := k) (q := q) (q1 := q1) (s0 := zoM fa n k) (g0 := g2) hok l1 hn C hQ (by omega) (fun g3 c1 c2 c3 => ?_) n 0 g2 (by omega) (zFe.rf _ _) (fun _ _ => rfl) rfl (lk.fe b2 id) (fun v hv => (l3 v hv).fe b2 id) b1
    · have e : zoM fa n k + zoM1 fa n k 0 = zoM fa n k := Int32.add_zero _
      rw [e] at this
      exact this
    · have e : zFe (fun k => k = 11) g1 g3 := (b2.mono (fun _ h => h.elim)).trans c1
      refine cx_openMany_l hok hM6 hn C hQ hB hK cc (k + 1) g3 (by omega) ((hF.trans a2).trans e) (by omega) ((hL.fe a2 (by omega)).fe e (by omega)) (fun i hi => (hm1 i hi).fe (by omega) e (fun k _ _ h => h) (by omega) (by omega) (by omega) (by omega)) ?_
      obtain ⟨u, hu⟩ := a1'
      exact ⟨u, by rw [c2 q1 hne]; exact hu⟩
end CLS
