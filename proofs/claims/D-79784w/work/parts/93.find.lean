set_option maxRecDepth 100000
theorem vb_j {j : Nat} : vb_c (j + 128) = nI j := by
  unfold vb_c
  rw [show Int32.ofNat (j + 128) = nI (j + 128) from rfl, ← nI_add]
  exact Int32.add_sub_cancel _ _
theorem sp_valueOf' {X : zX} {d : Nat} {g : zG} {K : Option Value → zG → Prop} {KX : String → zG → Prop} (hok : zOk X) {j : Nat} (hj : j ≤ 127) (h : K (some (.ref (zN X (j + 128)))) g) : zCal X d yJ21_valueOf wJ21_valueOf [.int (nI j)] g K KX := by
  have e : nI j + 128 = nI (j + 128) := by
    rw [show (128 : Int32) = nI 128 from rfl, nI_add]
  refine sp_valueOf hok (fun z => ?_) (fun z => ?_) (by rw [e]; exact vp_in_nI (by omega) (by omega)) (by rw [e, nI_clamp (by omega)]; exact h)
  · exact nI_pos (n := j) (by omega) (Int32.lt_trans z (by decide))
  · exact nI_nlt (a := 127) (b := j) hj (by omega) z
/-- a pair of small numbers -/
def zPw (X : zX) (g : zG) (a : Nat) (c s : Int32) : Prop := ∃ j1 j2 : Nat, j1 ≤ 127 ∧ j2 ≤ 127 ∧ c = nI j1 ∧ s = nI j2 ∧ zGo g 6 a = some [.ref (zN X (j1 + 128)), .ref (zN X (j2 + 128))]
theorem zPw.fe {X : zX} {P : Nat → Prop} {g g' : zG} {a : Nat} {c s : Int32} (h : zPw X g a c s) (e : zFe P g g') (h6 : ¬ P 6) : zPw X g' a c s := by
  obtain ⟨j1, j2, a1, a2, a3, a4, a5⟩ := h
  exact ⟨j1, j2, a1, a2, a3, a4, e.1 6 h6 _ _ a5⟩
/-- what a monitor knows of m events -/
def zKn (X : zX) (i a m : Nat) (kp sc : Nat → Int32) (p : Nat) (g : zG) : Prop := ∃ l : List Nat, l.length = m ∧ zLs X g (81 + 3 * i) a l p ∧ ∀ v : Nat, v < m → zPw X g (zr l v) (kp v) (sc v)
theorem zKn.fe {X : zX} {i a m : Nat} {kp sc : Nat → Int32} {p : Nat} {P : Nat → Prop} {g g' : zG} (h : zKn X i a m kp sc p g) (e : zFe P g g') (h1 : ¬ P (81 + 3 * i)) (h6 : ¬ P 6) : zKn X i a m kp sc p g' := by
  obtain ⟨l, a1, a2, a3⟩ := h
  exact ⟨l, a1, a2.fe e h1, fun v hv => (a3 v hv).fe e h6⟩
theorem zPw.ob {X : zX} {g : zG} {a : Nat} {c s : Int32} (h : zPw X g a c s) : zob g a := by
  obtain ⟨j1, j2, a1, a2, a3, a4, a5⟩ := h
  exact ⟨6, by omega, 6, _, a5, rfl⟩
theorem zr_el {l : List Nat} {v : Nat} (h : v < l.length) : zr l v = l[v] := by
  unfold zr
  rw [List.getD_eq_getElem?_getD, List.getElem?_eq_getElem h]
  rfl
theorem zKn.obs {X : zX} {i a m : Nat} {kp sc : Nat → Int32} {g : zG} {l : List Nat} (h1 : l.length = m) (h : ∀ v : Nat, v < m → zPw X g (zr l v) (kp v) (sc v)) : ∀ y ∈ l, zob g y := by
  intro y hy
  obtain ⟨v, hv, rfl⟩ := List.mem_iff_getElem.mp hy
  rw [← zr_el hv]
  exact (h v (by omega)).ob
def zO8 (b0 : Nat) (g g' : zG) : Prop := ∀ b : Nat, b ≠ b0 → ∀ fs : List Value, zGo g 8 b = some fs → zGo g' 8 b = some fs
theorem zO8.rf (b0 : Nat) (g : zG) : zO8 b0 g g := fun _ _ _ h => h
theorem zO8.trans {b0 : Nat} {g g' g'' : zG} (h : zO8 b0 g g') (h' : zO8 b0 g' g'') : zO8 b0 g g'' := fun b hb fs e => h' b hb fs (h b hb fs e)
theorem zFe.o8 {P : Nat → Prop} {g g' : zG} (h : zFe P g g') (h8 : ¬ P 8) (b0 : Nat) : zO8 b0 g g' := fun b _ fs e => h.1 8 h8 b fs e
/-- what find's loop may change -/
def zPj (i : Nat) (k : Nat) : Prop := k = 8 ∨ k = 81 + 3 * i
/-- what find may change -/
def zPi (i : Nat) (k : Nat) : Prop := k = 8 ∨ zPf i k ∨ k = 81 + 3 * i
section FND
variable {X : zX} {d : Nat} {g : zG} {K : Option Value → zG → Prop} {KX : String → zG → Prop} {i x : Nat} {ad mo fo eo : Nat → Nat} {np : Nat} {t : Int32} {fi : Nat → Int32} {fa : Nat → Nat → Int32}
/-- a pair is made of what was found and of how many events there are -/
theorem mt_mk (hok : zOk X) (hi : i < 6) {n k j a pe a0 : Nat} {f : Nat → Int32} (ha0 : a0 = mo 0) (hM : zMs X i x ad mo fo np t fi fa g) (hEv : zEv X ad eo n fa pe g) (hf : zGi g 51 (ad 10) = some (80, f)) (hk : k < 80) (hj : j ≤ 127) (hfk : f k = nI j) (hn : n ≤ 80) (ha : zFr g a) {g_97 : zG} {x1 : Int32} (hx1 : x1 = nI k) (e : g_97 = zSz (zSo g 6 a [.null, .null]) (zGz g + 1 + 2)) {K2 : Option Value → zG → Prop}
    (hK : ∀ g2, g2 = zSz (zSo g 6 a [.ref (zN X (j + 128)), .ref (zN X (n + 128))]) (zGz g + 1 + 2) → K2 none g2) : ∃ (fs_98 : List Value) (a_99 : Nat), zGo g_97 8 a0 = some fs_98 ∧ fs_98[7]? = some (.ref a_99) ∧ ∃ (fs_100 : List Value) (a_101 : Nat), zGo g_97 1 a_99 = some fs_100 ∧ fs_100[10]? = some (.ref a_101) ∧ ∃ (n_102 : Nat) (f_103 : Nat → Int32), zGi g_97 51 a_101 = some (n_102, f_103) ∧ vp_in x1 n_102 ∧ ∀ v_104 : Int32, v_104 = f_103 x1.toNatClampNeg → zCal X (d + 1) yJ21_valueOf wJ21_valueOf [.int v_104] g_97 (fun r g_105 => ∃ a_107 : Nat, r = some (.ref a_107) ∧ ∃ (fs_108 : List Value) (a_109 : Nat), zGo g_105 8 a0 = some fs_108 ∧ fs_108[7]? = some (.ref a_109) ∧ ∃ (fs_110 : List Value) (a_111 : Nat), zGo g_105 1 a_109 = some fs_110 ∧ fs_110[2]? = some (.ref a_111) ∧ zIs g_105 0 a_111 ∧ zCal X (d + 1) yJ2_size wJ2_size [.ref a_111] g_105 (fun r g_112 => ∃ v_113 : Int32, r = some (.int v_113) ∧ zCal X (d + 1) yJ21_valueOf wJ21_valueOf [.int v_113] g_112 (fun r g_114 => ∃ a_116 : Nat, r = some (.ref a_116) ∧ zCal X (d + 1) yX6_init wX6_init [.ref a, .ref a_107, .ref a_116] g_114 K2 KX) KX) KX) KX := by
  subst hx1 ha0
  have f1 : zFe (fun _ => False) g g_97 := by
    subst e
    exact zFe.new ha _
  have hM1 := hM.fe hi f1 id id id id id id
  have hE1 := hEv.fe f1 id id
  refine ⟨_, _, hM1.1, rfl, _, _, hM1.2.1, rfl, 80, f, f1.2.1 51 id _ _ hf, vp_in_nI (by omega) (by omega), fun v hv => ?_⟩
  rw [nI_clamp (by omega), hfk] at hv
  subst hv
  refine sp_valueOf' hok hj ⟨_, rfl, _, _, hM1.1, rfl, _, _, hM1.2.1, rfl, hE1.1.is (by omega), ls_size hok hE1.1 (by omega) ⟨_, rfl, ?_⟩⟩
  rw [List.length_map, List.length_range]
  refine sp_valueOf' hok (by omega) ⟨_, rfl, ?_⟩
  subst e
  refine cp_Pair hok (d0 := .null) (d1 := .null) (by rw [zSz_o, zSo_o, zup_s]) ?_
  rw [zSo_sz, zSo_so]
  exact hK _ rfl
theorem zMs.tk {t' : Int32} {g' : zG} (h : zMs X i x ad mo fo np t fi fa g) (hi : i < 6) (e : g' = zSo g 8 (mo 0) ([.ref (fo (np - 1)), .ref (mo 1), .ref (mo 2), .int (fa 21 i), .int (fa 22 i), .ref (mo 5), .int t, .ref x].set 6 (.int t'))) : zMs X i x ad mo fo np t' fi fa g' := by
  have f1 : zFe (fun k => k = 8) g g' := by
    subst e
    exact zFe.so rfl
  obtain ⟨a1, a2, ⟨q, a3⟩, a4, a5⟩ := h
  refine ⟨?_, f1.1 1 (by omega) _ _ a2, ⟨q, a3.fe f1 (by omega)⟩, fun p hp => f1.1 7 (by omega) _ _ (a4 p hp), a5.fe hi f1 (by omega) (by omega)⟩
  subst e
  rw [zSo_o, zup_s]
  rfl
/-- the kept answers and since when, behind k -/
def zkq (fa : Nat → Nat → Int32) (ans : Nat → Int32) (i k v : Nat) : Int32 := if v < k then ans v else fa 25 (80 * i + v)
def zsq (fa : Nat → Nat → Int32) (ans : Nat → Int32) (n : Int32) (i old k v : Nat) : Int32 := if v < k ∧ (old ≤ v ∨ ¬ fa 25 (80 * i + v) = ans v) then n else fa 26 (80 * i + v)
theorem mt_find_l (hok : zOk X) (hi : i < 6) {n old pe : Nat} {ans f : Nat → Int32} (hn : n ≤ 80) (ho : old ≤ n) (hfa : ∀ v, v < n → f v = ans v) (h3 : ∀ v, z3 (ans v)) {B : Nat} (hB : B + 400 ≤ zz X) {g0 : zG} {E : zM} (C : zC X (d + 7) E RX8 cX8_find 2 none "find") (hQ : zQ X E K KX)
    (hK : ∀ (g' : zG) (p' : Nat), zFe (zPj i) g0 g' → zO8 (mo 0) g0 g' → zGz g' + p' ≤ B → zMs X i x ad mo fo np (ztk fa ans i old n) fi fa g' → zKn X i (mo 5) n (zkq fa ans i n) (zsq fa ans (nI n) i old n) p' g' → zGi g' 51 (ad 10) = some (80, f) → K none g') : ∀ (c k : Nat) (g : zG) (p : Nat), n = k + c → zFe (zPj i) g0 g → zO8 (mo 0) g0 g → zGz g + p + 3 * c ≤ B → zMs X i x ad mo fo np (ztk fa ans i old k) fi fa g → zKn X i (mo 5) (max old k) (zkq fa ans i k) (zsq fa ans (nI n) i old k) p g → zEv X ad eo n fa pe g → zGi g 51 (ad 10) = some (80, f) →
    GW X E 2 g 20 [(0, .ref (mo 0)), (1, .int (nI k))] []
  | 0, k, g, p, hk, hF, hO, hz, hM, hKn, hEv, hf => by
    have : n = k := by omega
    subst this
    refine bX8_find_20 (d := d + 6) C hQ g _ _ ⟨_, _, hM.1, rfl, _, _, hM.2.1, rfl, hEv.1.is (by omega), ls_size hok hEv.1 (by omega) ⟨_, rfl, fun _ => hK g p hF hO hz hM (by rw [Nat.max_eq_right ho] at hKn; exact hKn) hf, fun z => absurd (show nI (((List.range n).map eo).length) ≤ nI n by rw [List.length_map, List.length_range]; exact Int32.le_refl _) z⟩⟩
  | c + 1, k, g, p, hk, hF, hO, hz, hM, hKn, hEv, hf => by
    have hkn : k < n := by omega
    have hfk := hfa k hkn
    obtain ⟨ja, ha3, hja⟩ : ∃ j : Nat, j ≤ 127 ∧ ans k = nI j := by
      rcases h3 k with h | h | h
      · exact ⟨0, by omega, by rw [h]; rfl⟩
      · exact ⟨1, by omega, by rw [h]; rfl⟩
      · exact ⟨2, by omega, by rw [h]; rfl⟩
    obtain ⟨l, l1, l2, l3⟩ := id hKn
    have hob := zKn.obs (i := i) (a := mo 5) l1 l3
    have hszl : l.length = max old k := l1
    -- on with the loop
    have on : ∀ (g' : zG) (p' : Nat), zFe (fun k => k = 8 ∨ k = 81 + 3 * i) g g' → zO8 (mo 0) g g' → zGz g' + p' + 3 * c ≤ B → zMs X i x ad mo fo np (ztk fa ans i old (k + 1)) fi fa g' → zKn X i (mo 5) (max old (k + 1)) (zkq fa ans i (k + 1)) (zsq fa ans (nI n) i old (k + 1)) p' g' → GW X E 2 g' 20 [(0, .ref (mo 0)), (1, .int (nI k + 1))] [] := by
      intro g' p' e1 e2 e3 e4 e5
      rw [← nI_succ]
      exact mt_find_l hok hi hn ho hfa h3 hB C hQ hK c (k + 1) g' p' (by omega) (hF.trans e1) (hO.trans e2) e3 e4 e5 (hEv.fe e1 (by omega) (by omega)) (e1.2.1 51 (by omega) _ _ hf)
    have evsz : ∀ {K' : Option Value → zG → Prop}, K' (some (.int (nI n))) g → zCal X (d + 6) yJ2_size wJ2_size [.ref (ad 2)] g K' KX := fun h => ls_size hok hEv.1 (by omega) (by rw [List.length_map, List.length_range]; exact h)
    have pot : ztk fa ans i old (k + 1) = ztk fa ans i old k + (if k < old ∧ ¬ fa 25 (80 * i + k) = ans k ∧ ¬ fa 25 (80 * i + k) = 2 then 1 else 0) := rfl
    have kqo : ∀ v, v ≠ k → zkq fa ans i (k + 1) v = zkq fa ans i k v := fun v hv => by
      unfold zkq
      by_cases c1 : v < k
      · rw [if_pos c1, if_pos (by omega)]
      · rw [if_neg c1, if_neg (by omega)]
    have sqo : ∀ v, v ≠ k → zsq fa ans (nI n) i old (k + 1) v = zsq fa ans (nI n) i old k v := fun v hv => by
      unfold zsq
      by_cases c1 : v < k
      · have e : (v < k + 1 ∧ (old ≤ v ∨ ¬ fa 25 (80 * i + v) = ans v)) ↔ (v < k ∧ (old ≤ v ∨ ¬ fa 25 (80 * i + v) = ans v)) := ⟨fun z => ⟨c1, z.2⟩, fun z => ⟨by omega, z.2⟩⟩
        simp only [e]
      · rw [if_neg (by omega), if_neg (by omega)]
    have kqk : zkq fa ans i (k + 1) k = ans k := by
      unfold zkq
      rw [if_pos (by omega)]
    -- a new pair
    have new : (old ≤ k ∨ ¬ fa 25 (80 * i + k) = ans k) → ∀ (a : Nat) (g1 g2 : zG), zFr g1 a → g2 = zSz (zSo g1 6 a [.ref (zN X (ja + 128)), .ref (zN X (n + 128))]) (zGz g1 + 1 + 2) → zPw X g2 a (zkq fa ans i (k + 1) k) (zsq fa ans (nI n) i old (k + 1) k) ∧ zFe (fun _ => False) g1 g2 ∧ zGz g2 = zGz g1 + 3 := by
      intro hch a g1 g2 h1 h2
      refine ⟨⟨ja, n, ha3, by omega, by rw [kqk, hja], ?_, by rw [h2, zSz_o, zSo_o, zup_s]⟩, by rw [h2]; exact zFe.new h1 _, by rw [h2]; rfl⟩
      unfold zsq
      rw [if_pos ⟨by omega, hch⟩]
    refine bX8_find_20 (d := d + 6) C hQ g _ _ ⟨_, _, hM.1, rfl, _, _, hM.2.1, rfl, hEv.1.is (by omega), evsz ⟨_, rfl, fun z => absurd z (nI_ge (by omega) (by omega)), fun _ => ⟨_, _, hM.1, rfl, l2.is (by omega), ls_size hok l2 (by omega) ⟨_, rfl, fun c1 => ?_, fun c1 => ?_⟩⟩⟩⟩
    · have hko : k < old := by
        by_cases h : k < old
        · exact h
        · rw [hszl, Nat.max_eq_right (by omega)] at c1
          exact absurd rfl c1
      have hm : max old k = old := Nat.max_eq_left (by omega)
      have hm1 : max old (k + 1) = old := Nat.max_eq_left (by omega)
      have hkl : k < l.length := by omega
      have pk := l3 k (by omega)
      obtain ⟨j1, j2, p1, p2, p3, p4, p5⟩ := id pk
      have hkq : zkq fa ans i k k = fa 25 (80 * i + k) := if_neg (Nat.lt_irrefl k)
      have hsq : zsq fa ans (nI n) i old k k = fa 26 (80 * i + k) := if_neg (fun z => Nat.lt_irrefl k z.1)
      have getk : ∀ {g' : zG} {K' : Option Value → zG → Prop}, g' = g → K' (some (.ref (zr l k))) g' → zCal X (d + 6) yJ2_get wJ2_get [.ref (mo 5), .int (nI k)] g' K' KX := fun e h => by
        subst e
        refine ls_get (d := d + 4) hok l2 (by omega) hkl ?_
        rw [← zr_el hkl]
        exact h
      refine ⟨_, _, hM.1, rfl, l2.is (by omega), getk rfl ⟨_, rfl, _, rfl, ⟨6, _, p5, rfl⟩, _, _, p5, rfl, ⟨j1 + 128, by omega, rfl⟩, j1 + 128, by omega, rfl, fun v19 e19 => ⟨_, _, hM.1, rfl, _, _, hM.2.1, rfl, 80, f, hf, vp_in_nI (by omega) (by omega), fun v26 e26 => ?_⟩⟩⟩
      rw [nI_clamp (by omega), hfk] at e26
      rw [vb_j, ← p3, hkq] at e19
      subst e26 e19
      refine ⟨fun c2 => ?_, fun c2 => ⟨_, _, hM.1, rfl, _, _, hM.1, rfl, l2.is (by omega), getk rfl ⟨_, rfl, _, rfl, ⟨6, _, p5, rfl⟩, _, _, p5, rfl, ⟨j1 + 128, by omega, rfl⟩, j1 + 128, by omega, rfl, fun v37 e37 => ?_⟩⟩⟩
      · refine on g p (zFe.rf _ _) (zO8.rf _ _) (by omega) (by rw [pot, if_neg (fun z => z.2.1 c2), Int32.add_zero]; exact hM) ⟨l, by omega, l2, fun v hv => ?_⟩
        by_cases cv : v = k
        · subst cv
          rw [kqk, ← c2, ← hkq]
          have e2 : zsq fa ans (nI n) i old (v + 1) v = zsq fa ans (nI n) i old v v := by
            rw [hsq]
            unfold zsq
            rw [if_neg (fun z => z.2.elim (fun h => by omega) (fun h => h c2))]
          rw [e2]
          exact pk
        · rw [kqo v cv, sqo v cv]
          exact l3 v (by omega)
      · rw [vb_j, ← p3, hkq] at e37
        subst e37
        -- the change
        have chg : ∀ (t' : Int32), t' = ztk fa ans i old (k + 1) → ∀ g1, g1 = zSo g 8 (mo 0) ([.ref (fo (np - 1)), .ref (mo 1), .ref (mo 2), .int (fa 21 i), .int (fa 22 i), .ref (mo 5), .int (ztk fa ans i old k), .ref x].set 6 (.int t')) → zMs X i x ad mo fo np (ztk fa ans i old (k + 1)) fi fa g1 ∧ zFe (fun k => k = 8) g g1 ∧ zGz g1 = zGz g ∧ zO8 (mo 0) g g1 := by
          intro t' ht g1 e1
          refine ⟨hM.tk hi (by rw [← ht]; exact e1), by rw [e1]; exact zFe.so rfl, by rw [e1]; rfl, fun b hb fs hq => ?_⟩
          rw [e1, zSo_o, zup_a _ _ _ _ hb]
          exact hq
        have fin : ∀ g1, zMs X i x ad mo fo np (ztk fa ans i old (k + 1)) fi fa g1 → zFe (fun k => k = 8) g g1 → zGz g1 = zGz g → zO8 (mo 0) g g1 → ∀ (a : Nat) (g2 : zG), zFr g1 a → g2 = zSz (zSo g1 6 a [.ref (zN X (ja + 128)), .ref (zN X (n + 128))]) (zGz g1 + 1 + 2) → zIs g2 0 (mo 5) ∧ zCal X (d + 6) yJ2_set wJ2_set [.ref (mo 5), .int (nI k), .ref a] g2 (fun r g_92 => ∃ r_93 : Option Nat, r = some (va_rf r_93) ∧ GW X E 2 g_92 20 [(0, .ref (mo 0)), (1, .int (nI k + 1))] []) KX := by
          intro g1 m1 m2 m3 m4 a g2 hfr e2
          obtain ⟨n1, n2, n3⟩ := new (Or.inr c2) a g1 g2 hfr e2
          have l2' := (l2.fe m2 (by omega)).fe n2 id
          have hob2 : ∀ v, v < max old k → zPw X g2 (zr l v) (zkq fa ans i k v) (zsq fa ans (nI n) i old k v) := fun v hv => ((l3 v hv).fe m2 (by omega)).fe n2 id
          refine ⟨l2'.is (by omega), ls_set (d := d + 4) hok l2' (by omega) hkl n1.ob (fun g3 b1 b2 => ⟨some _, rfl, ?_⟩)⟩
          have f3 := b2.fe (by omega)
          have z3 : zGz g3 = zGz g2 := b2.2.2
          have f8 : zFe (fun k => k = 8 ∨ k = 81 + 3 * i) g g3 := ((m2.mono (fun k hk => Or.inl hk)).trans (n2.mono (fun k hk => hk.elim))).trans (f3.mono (fun k hk => Or.inr hk))
          refine on g3 p f8 ((m4.trans (n2.o8 id _)).trans (f3.o8 (by omega) _)) (by omega) ((m1.fe hi n2 id id id id id id).fe hi f3 (by omega) (by omega) (by omega) (by omega) (by omega) (by omega)) ⟨l.set k a, by rw [List.length_set]; omega, b1, fun v hv => ?_⟩
          by_cases cv : v = k
          · subst cv
            have : zr (l.set v a) v = a := by
              rw [zr_el (by rw [List.length_set]; exact hkl), List.getElem_set_self]
            rw [this]
            exact n1.fe f3 (by omega)
          · have : zr (l.set k a) v = zr l v := by
              rw [zr_el (by rw [List.length_set]; omega), zr_el (by omega), List.getElem_set_ne (fun z => cv z.symm)]
            rw [this, kqo v cv, sqo v cv]
            exact (hob2 v (by omega)).fe f3 (by omega)
        refine ⟨fun c3 => ⟨_, hM.1, by simp, fun g1 e1 => ?_⟩, fun c3 => ⟨_, hM.1, by simp, fun g1 e1 => ?_⟩⟩
        · obtain ⟨m1, m2, m3, m4⟩ := chg _ (by rw [pot, if_pos ⟨hko, c2, c3⟩]) g1 e1
          refine ⟨_, _, m1.1, rfl, by omega, fun a hfr g2 e2 => mt_mk (d := d + 5) hok hi rfl m1 (hEv.fe m2 (by omega) (by omega)) (m2.2.1 51 (by omega) _ _ hf) (by omega) ha3 (by rw [hfk, hja]) hn hfr rfl e2 (fun g2 e2 => ⟨rfl, fin g1 m1 m2 m3 m4 a g2 hfr e2⟩)⟩
        · obtain ⟨m1, m2, m3, m4⟩ := chg _ (by rw [pot, if_neg (fun z => z.2.2 c3)]) g1 e1
          refine ⟨_, _, m1.1, rfl, by omega, fun a hfr g2 e2 => mt_mk (d := d + 5) hok hi rfl m1 (hEv.fe m2 (by omega) (by omega)) (m2.2.1 51 (by omega) _ _ hf) (by omega) ha3 (by rw [hfk, hja]) hn hfr rfl e2 (fun g2 e2 => ⟨rfl, fin g1 m1 m2 m3 m4 a g2 hfr e2⟩)⟩
    · have hok' : old ≤ k := by
        by_cases h : k < old
        · rw [hszl, Nat.max_eq_left (by omega)] at c1
          have := (nI_eq (by omega) (by omega)).mp c1
          omega
        · omega
      have hm : max old k = k := Nat.max_eq_right hok'
      have hm1 : max old (k + 1) = k + 1 := Nat.max_eq_right (by omega)
      refine ⟨_, _, hM.1, rfl, by omega, fun a hfr g2 e2 => mt_mk (d := d + 5) hok hi rfl hM hEv hf (by omega) ha3 (by rw [hfk, hja]) hn hfr rfl e2 (fun g2 e2 => ⟨rfl, ?_⟩)⟩
      obtain ⟨n1, n2, n3⟩ := new (Or.inl hok') a g g2 hfr e2
      have l2' := l2.fe n2 id
      have hob2 : ∀ v, v < max old k → zPw X g2 (zr l v) (zkq fa ans i k v) (zsq fa ans (nI n) i old k v) := fun v hv => (l3 v hv).fe n2 id
      refine ⟨l2'.is (by omega), ls_add (d := d) hok l2' (by omega) n1.ob (zKn.obs (i := i) (a := mo 5) l1 hob2) (by omega) (by omega) (fun g3 p3 b1 b2 b3 => ⟨_, rfl, Or.inr rfl, ?_⟩)⟩
      have f3 := b2.fe (by omega)
      have f8 : zFe (fun k => k = 8 ∨ k = 81 + 3 * i) g g3 := (n2.mono (fun k hk => hk.elim)).trans (f3.mono (fun k hk => Or.inr hk))
      refine on g3 p3 f8 ((n2.o8 id _).trans (f3.o8 (by omega) _)) (by omega) (by rw [pot, if_neg (fun z => by omega), Int32.add_zero]; exact (hM.fe hi n2 id id id id id id).fe hi f3 (by omega) (by omega) (by omega) (by omega) (by omega) (by omega)) ⟨l ++ [a], by rw [List.length_append, List.length_singleton]; omega, b1, fun v hv => ?_⟩
      by_cases cv : v = k
      · subst cv
        have : zr (l ++ [a]) v = a := by
          have h2 := zr_app l a []
          rw [show l.length = v by omega] at h2
          exact h2
        rw [this]
        exact n1.fe f3 (by omega)
      · rw [zr_app_l (by omega), kqo v cv, sqo v cv]
        exact (hob2 v (by omega)).fe f3 (by omega)
/-- find: a monitor's answers anew -/
theorem mt_find (hok : zOk X) (hi : i < 6) (hc : zFc i np fa) (hj : zMj mo np) {n old pe ql q0 p0 : Nat} {lg l0 : List Nat} {f0 : Nat → Int32} (hn : n ≤ 80) (ho : old ≤ n) (hLi : zLi fi fa lg) (hz : zGz g + q0 + p0 + 3 * n + 400 ≤ zz X) {D : Nat} (hD : 106 ≤ D)
    (hM : zMs X i x ad mo fo np (fa 24 i) fi fa g) (hL : zLs X g (82 + 3 * i) (mo 3) l0 q0) (hA : zLA X 65 (ad 3) ql eo fa lg g) (hEv : zEv X ad eo n fa pe g) (hf : zGi g 51 (ad 10) = some (80, f0)) (hKn : zKn X i (mo 5) old (fun v => fa 25 (80 * i + v)) (fun v => fa 26 (80 * i + v)) p0 g)
    (hK : ∀ (g' : zG) (p' q' : Nat) (l' : List Nat) (f' : Nat → Int32), zFe (zPi i) g g' → zO8 (mo 0) g g' → zGz g' + p' + q' ≤ zGz g + p0 + q0 + 3 * n → zMs X i x ad mo fo np (ztk fa (zAn fi fa i np lg n) i old n) fi fa g' → zKn X i (mo 5) n (zkq fa (zAn fi fa i np lg n) i n) (zsq fa (zAn fi fa i np lg n) (nI n) i old n) p' g' → zLs X g' (82 + 3 * i) (mo 3) l' q' → zGi g' 51 (ad 10) = some (80, f') → K none g') : zCal X D yX8_find wX8_find [.ref (mo 0)] g K KX := by
  obtain ⟨d, rfl⟩ : ∃ d, D = d + 7 := ⟨D - 7, by omega⟩
  refine mX8_find (d := d + 6) hok _ (fun E C hQ => ⟨_, _, hM.1, rfl, _, _, hM.2.1, rfl, _, _, hM.1, rfl, ⟨1, _, hM.2.1, rfl⟩, cx_ids hok hn hM.2.1 hEv (by omega) ⟨_, rfl, ⟨8, _, hM.1, rfl⟩, ?_⟩⟩)
  refine mt_answersIn (ids := zid fa n) hok hi hc hj (by omega) (by omega) (by omega) hLi (by omega) (by omega) hM hL hA hf (fun g1 q1 l1 f1 a1 a2 a3 a4 a5 a6 => ⟨rfl, ?_⟩)
  rw [show (0 : Int32) = nI 0 from nI_0.symm]
  have pf : ∀ k, zPf i k → zPi i k := fun k hk => Or.inr (Or.inl hk)
  have hK1 : zKn X i (mo 5) (max old 0) (zkq fa (zAn fi fa i np lg n) i 0) (zsq fa (zAn fi fa i np lg n) (nI n) i old 0) p0 g1 := by
    have := hKn.fe a1 (by unfold zPf zPr; omega) (by unfold zPf zPr; omega)
    rw [Nat.max_zero]
    have e1 : zkq fa (zAn fi fa i np lg n) i 0 = fun v => fa 25 (80 * i + v) := by
      funext v
      exact if_neg (Nat.not_lt_zero v)
    have e2 : zsq fa (zAn fi fa i np lg n) (nI n) i old 0 = fun v => fa 26 (80 * i + v) := by
      funext v
      exact if_neg (fun z => Nat.not_lt_zero v z.1)
    rw [e1, e2]
    exact this
  -- the row's list stands still in the loop
  refine mt_find_l (d := d) (g0 := g1) (old := old) (ans := zAn fi fa i np lg n) (f := f1) (B := zGz g1 + p0 + 3 * n) hok hi hn ho (fun v hv => a6 v (by omega)) (fun v => zAn_3 _ _ _ _ _ _ _) (by omega) C hQ (fun g2 p2 b1 b2 b3 b4 b5 b6 => ?_) n 0 g1 p0 (by omega) (zFe.rf _ _) (zO8.rf _ _) (Nat.le_refl _) a4 hK1 (hEv.fe a1 (by unfold zPf zPr; omega) (by unfold zPf zPr; omega)) a5
  have hL2 := a3.fe b1 (by unfold zPj; omega)
  exact hK g2 p2 q1 l1 f1 ((a1.mono pf).trans (b1.mono (fun k hk => hk.elim (fun h => Or.inl h) (fun h => Or.inr (Or.inr h))))) ((a1.o8 (by unfold zPf zPr; omega) _).trans b2) (by omega) b4 b5 hL2 b6
end FND
