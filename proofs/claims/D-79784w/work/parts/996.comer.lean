set_option maxRecDepth 100000
theorem zIn_t {v a b : Int32} (h : ¬ zIn v a b = 0) : a.toInt ≤ v.toInt ∧ v.toInt ≤ b.toInt := by
  unfold zIn at h
  by_cases c1 : v < a
  · rw [if_pos c1] at h
    exact absurd rfl h
  · rw [if_neg c1] at h
    by_cases c2 : b < v
    · rw [if_pos c2] at h
      exact absurd rfl h
    · rw [Int32.lt_iff_toInt_lt] at c1 c2
      omega
/-- a number from 0 on -/
theorem zIn_N {v b : Int32} {N : Nat} (h : ¬ zIn v 0 b = 0) (hb : b.toInt = N) : ∃ k : Nat, k ≤ N ∧ v = nI k := by
  obtain ⟨h1, h2⟩ := zIn_t h
  have h0 : (0 : Int32).toInt = 0 := rfl
  exact nI_of2 hb (fun z => by rw [Int32.lt_iff_toInt_lt] at z; omega) (by rw [Int32.le_iff_toInt_le]; exact h2)
theorem nI_ti {x : Int32} {N : Nat} (h1 : 0 ≤ x.toInt) (h2 : x.toInt ≤ N) (hN : N < 2 ^ 31) : ∃ k : Nat, k ≤ N ∧ x = nI k := by
  have h0 : (0 : Int32).toInt = 0 := rfl
  obtain ⟨j, hj, e⟩ := nI_of (x := x) (fun z => by rw [Int32.lt_iff_toInt_lt] at z; omega)
  refine ⟨j, ?_, e⟩
  rw [e, nI_toInt hj] at h2
  omega
theorem i32_add {a b : Int32} (h1 : -2000000 ≤ a.toInt + b.toInt) (h2 : a.toInt + b.toInt ≤ 2000000) : (a + b).toInt = a.toInt + b.toInt := by
  rw [Int32.toInt_add, Int.bmod_eq_of_le (by omega) (by omega)]
theorem i32_sub {a b : Int32} (h1 : -2000000 ≤ a.toInt - b.toInt) (h2 : a.toInt - b.toInt ≤ 2000000) : (a - b).toInt = a.toInt - b.toInt := by
  rw [Int32.toInt_sub, Int.bmod_eq_of_le (by omega) (by omega)]
section CMR
variable {X : zX} {d : Nat} {x : Nat} {ad fo eo : Nat → Nat} {fi : Nat → Int32} {fa : Nat → Nat → Int32} {lg : List Nat} {M P : Nat} {np sz : Nat → Nat} {g : zG} {K : Option Value → zG → Prop} {KX : String → zG → Prop}
theorem cx_comer (hok : zOk X) (hV : zPv fi fa lg M P np sz) {p : Nat} (w1 : zGo g 1 x = some (zxs ad fi)) (w2 : zGi g 50 (ad 0) = some (4, fa 0)) (w3 : zEv X ad eo lg.length fa p g) (hz : zGz g + 100 ≤ zz X) {x1 x2 x3 x4 x5 : Int32} {D : Nat} (hD : 8 ≤ D)
    (h1 : zxc fi fa x1 x2 x3 x4 x5 = 0 → ∀ a4 t k8 : Nat, a4 < 4 → x1 = nI a4 → x2 + fa 0 a4 = nI t → t ≤ 11000 → x3 = nI k8 → k8 < 8 → (x4 = -1 ∨ ∃ k : Nat, k < 10 ∧ x4 = nI k) → (-1000 ≤ x5.toInt ∧ x5.toInt ≤ 1000) → lg.length ≤ 79 → ∀ (a : Nat) (g' : zG), zFr g a → g' = zSz (zSo g 4 a [.int (nI lg.length), .int (nI t), .int (nI a4), .int (nI k8), .int x4, .int x5, .int (if nI t < fi 5 then 1 else 0)]) (zGz g + 1 + 7) → K (some (.ref a)) g')
    (hx : ∀ (cd : Int32) (s : String), zxc fi fa x1 x2 x3 x4 x5 = cd → (cd = 1 ∧ s = RJ9) ∨ (cd = 2 ∧ s = RJ12) ∨ (cd = 3 ∧ s = RJ13) → KX s (zSz g (zGz g + 7))) : zCal X D yX1_comer wX1_comer [.ref x, .int x1, .int x2, .int x3, .int x4, .int x5] g K KX := by
  obtain ⟨d, rfl⟩ : ∃ d, D = d + 8 := ⟨D - 8, by omega⟩
  obtain ⟨hLg, -, -, -, hLi, -, -, -, -, -, hof, hpa, -⟩ := hV
  refine mX1_comer (d := d + 7) hok x _ _ _ _ _ (cx_isNode (d := d + 6) hok ⟨_, rfl, zIn_bo _ _ _, sp_place (d := d + 1) hok (fun n1 => ⟨rfl, cx_isIn hok ⟨_, rfl, zIn_bo _ _ _, fun c2 => ?_, fun n2 => cx_isIn hok ⟨_, rfl, zIn_bo _ _ _, fun c3 => ?_, fun n3 => cx_isIn hok ⟨_, rfl, zIn_bo _ _ _, fun c4 => ?_, fun n4 => cx_isIn hok ⟨_, rfl, zIn_bo _ _ _, fun c5 => ?_, fun n5 => ?_⟩⟩⟩⟩⟩) (fun c1 => ⟨by omega, hx 1 RJ9 (if_pos c1) (Or.inl ⟨rfl, rfl⟩)⟩)⟩)
  · exact sp_check (d := d + 1) hok (fun z => absurd rfl z) (fun _ => ⟨by omega, hx 2 RJ12 (by unfold zxc; rw [if_neg n1, if_pos (Or.inl c2)]) (Or.inr (Or.inl ⟨rfl, rfl⟩))⟩)
  · exact sp_check (d := d + 1) hok (fun z => absurd rfl z) (fun _ => ⟨by omega, hx 2 RJ12 (by unfold zxc; rw [if_neg n1, if_pos (Or.inr (Or.inl c3))]) (Or.inr (Or.inl ⟨rfl, rfl⟩))⟩)
  · exact sp_check (d := d + 1) hok (fun z => absurd rfl z) (fun _ => ⟨by omega, hx 2 RJ12 (by unfold zxc; rw [if_neg n1, if_pos (Or.inr (Or.inr (Or.inl c4)))]) (Or.inr (Or.inl ⟨rfl, rfl⟩))⟩)
  · exact sp_check (d := d + 1) hok (fun z => absurd rfl z) (fun _ => ⟨by omega, hx 2 RJ12 (by unfold zxc; rw [if_neg n1, if_pos (Or.inr (Or.inr (Or.inr c5)))]) (Or.inr (Or.inl ⟨rfl, rfl⟩))⟩)
  · obtain ⟨a4, ha4, rfl⟩ := zIn_N n1 (show (3 : Int32).toInt = (3 : Nat) by decide)
    obtain ⟨k8, hk8, rfl⟩ := zIn_N n3 (show (7 : Int32).toInt = (7 : Nat) by decide)
    obtain ⟨t1, t2⟩ := zIn_t n2
    rw [show (1000 : Int32).toInt = 1000 by decide] at t1
    rw [show (10000 : Int32).toInt = 10000 by decide] at t2
    obtain ⟨v1, v2⟩ := zIn_t n5
    rw [show (-1000 : Int32).toInt = -1000 by decide] at v1
    rw [show (1000 : Int32).toInt = 1000 by decide] at v2
    obtain ⟨i1, i2⟩ := zIn_t n4
    rw [show (-1 : Int32).toInt = -1 by decide] at i1
    rw [show (9 : Int32).toInt = 9 by decide] at i2
    obtain ⟨o1, o2⟩ := hof a4 (by omega)
    have tsum := i32_add (a := x2) (b := fa 0 a4) (by omega) (by omega)
    obtain ⟨t, ht, et⟩ := nI_ti (x := x2 + fa 0 a4) (N := 11000) (by omega) (by omega) (by omega)
    have hne : zxc fi fa (nI a4) x2 (nI k8) x4 x5 = if ¬ fi 2 = 0 ∨ 80 ≤ fi 3 ∨ fi 1 < fi 5 - x2 - fa 0 a4 then 3 else 0 := by
      unfold zxc
      rw [if_neg n1, if_neg (fun z => by rcases z with z | z | z | z; exact n2 z; exact n3 z; exact n4 z; exact n5 z), nI_clamp (by omega)]
    have al : (¬ fi 2 = 0 ∨ 80 ≤ fi 3 ∨ fi 1 < fi 5 - x2 - fa 0 a4) → zCal X (d + 7) yX1_allow wX1_allow [.int 0] g (fun r g_24 => r = none ∧ False) KX := fun h => sp_allow (d := d + 1) hok (fun z => absurd rfl z) (fun _ => ⟨by omega, hx 3 RJ13 (by rw [hne, if_pos h]) (Or.inr (Or.inr ⟨rfl, rfl⟩))⟩)
    obtain ⟨-, -, -, -, ⟨tp, tp1, tp2, -⟩, -⟩ := hLi
    have ti5 : (fi 5).toInt = tp := by rw [tp2, nI_toInt (by omega)]
    refine sp_check (d := d + 1) hok (fun _ => ⟨rfl, _, _, w1, rfl, 4, _, w2, vp_in_nI (by omega) (by omega), fun v21 e21 => ⟨_, _, w1, rfl, fun c6 => al (Or.inl (fun z => ?_)), fun c6 => ⟨_, _, w1, rfl, w3.1.is (by omega), ls_size hok w3.1 (by omega) ⟨_, rfl, ?_⟩⟩⟩⟩) (fun z => absurd z (by decide))
    · rw [if_pos z] at c6
      exact absurd c6 (by decide)
    · rw [nI_clamp (by omega)] at e21
      subst e21
      rw [List.length_map, List.length_range]
      have h2 : fi 2 = 0 := by
        by_cases z : fi 2 = 0
        · exact z
        · rw [if_neg z] at c6
          exact absurd rfl c6
      refine ⟨fun c7 => al (Or.inr (Or.inl (by rw [hLg.1]; exact c7))), fun c7 => ⟨_, _, w1, rfl, _, _, w1, rfl, fun c8 => al (Or.inr (Or.inr ?_)), fun c8 => ?_⟩⟩
      · have e1 := i32_sub (a := fi 5) (b := fi 1) (by omega) (by omega)
        have e2 := i32_sub (a := fi 5) (b := x2) (by omega) (by omega)
        have e3 := i32_sub (a := fi 5 - x2) (b := fa 0 a4) (by omega) (by omega)
        rw [Int32.lt_iff_toInt_lt] at c8 ⊢
        omega
      · have hl79 : lg.length ≤ 79 := by
          by_cases z : lg.length ≤ 79
          · exact z
          · exact absurd (show (nI 80 : Int32) ≤ nI lg.length from nI_le (by omega) (by have := hLg.2.1; omega)) c7
        have h0 : zxc fi fa (nI a4) x2 (nI k8) x4 x5 = 0 := by
          rw [hne, if_neg]
          rintro (z | z | z)
          · exact z h2
          · rw [hLg.1] at z
            exact c7 z
          · have e1 := i32_sub (a := fi 5) (b := fi 1) (by omega) (by omega)
            have e2 := i32_sub (a := fi 5) (b := x2) (by omega) (by omega)
            have e3 := i32_sub (a := fi 5 - x2) (b := fa 0 a4) (by omega) (by omega)
            rw [Int32.lt_iff_toInt_lt] at c8 z
            omega
        have hix : x4 = -1 ∨ ∃ k : Nat, k < 10 ∧ x4 = nI k := by
          by_cases z : x4 = -1
          · exact Or.inl z
          · have z' : ¬ x4.toInt = -1 := fun w => z (Int32.toInt_inj.mp (by rw [w]; decide))
            obtain ⟨k, hk, e⟩ := nI_ti (x := x4) (N := 9) (by omega) (by omega) (by omega)
            exact Or.inr ⟨k, by omega, e⟩
        refine sp_allow (d := d + 1) hok (fun _ => ⟨rfl, by omega, fun a ha g1 e1 => ?_⟩) (fun z => absurd z (by decide))
        have f1 : zFe (fun _ => False) g g1 := by
          subst e1
          exact zFe.new ha _
        have w31 := w3.fe f1 id id
        have x1' := f1.1 1 id _ _ w1
        refine ⟨_, _, x1', rfl, w31.1.is (by omega), ls_size hok w31.1 (by omega) ⟨_, rfl, _, _, x1', rfl, fun c9 => ?_, fun c9 => ?_⟩⟩
        · rw [List.length_map, List.length_range, et]
          refine cp_Event (d := d + 6) hok (by rw [e1, zSz_o, zSo_o, zup_s]) (Or.inl rfl) ⟨rfl, ?_⟩
          refine h1 h0 a4 t k8 (by omega) rfl et ht rfl (by omega) hix ⟨v1, v2⟩ hl79 a _ ha ?_
          rw [e1, zSo_sz, zSo_so, if_neg (Int32.not_lt.mpr (by rw [← et]; exact c9))]
        · rw [List.length_map, List.length_range, et]
          refine cp_Event (d := d + 6) hok (by rw [e1, zSz_o, zSo_o, zup_s]) (Or.inr rfl) ⟨rfl, ?_⟩
          refine h1 h0 a4 t k8 (by omega) rfl et ht rfl (by omega) hix ⟨v1, v2⟩ hl79 a _ ha ?_
          rw [e1, zSo_sz, zSo_so, if_pos (Int32.not_le.mp (by rw [← et]; exact c9))]
end CMR
