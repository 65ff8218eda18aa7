set_option maxRecDepth 100000
theorem zb_or (a b : Nat) : nI a ||| nI b = nI (a ||| b) := by
  unfold nI
  apply Int32.toBitVec_inj.mp
  rw [Int32.toBitVec_or]
  show BitVec.ofNat 32 a ||| BitVec.ofNat 32 b = BitVec.ofNat 32 (a ||| b)
  rw [BitVec.ofNat_or]
/-- ids are 0 to 9, or none -/
def zIr (fa : Nat → Nat → Int32) (n : Nat) : Prop := ∀ v : Nat, v < n → fa 9 v = -1 ∨ ∃ k : Nat, k < 10 ∧ fa 9 v = nI k
theorem zid_n {fa : Nat → Nat → Int32} : ∀ {n : Nat}, zIr fa n → ∃ s : Nat, s < 2 ^ 10 ∧ zid fa n = nI s ∧ ∀ v k : Nat, v < n → k < 10 → fa 9 v = nI k → s.testBit k = true
  | 0, _ => ⟨0, by decide, rfl, fun v k hv => absurd hv (Nat.not_lt_zero v)⟩
  | n + 1, h => by
    obtain ⟨s, h1, h2, h3⟩ := zid_n (n := n) (fun v hv => h v (by omega))
    rcases h n (by omega) with h4 | ⟨k, hk, h4⟩
    · refine ⟨s, h1, ?_, fun v k' hv hk' e => ?_⟩
      · show zid fa n ||| (if fa 9 n = -1 then (0 : Int32) else (1 : Int32) <<< (fa 9 n &&& 31)) = nI s
        rw [if_pos h4, h2]
        exact Int32.or_zero
      · by_cases c : v = n
        · subst c
          rw [h4] at e
          exact absurd (show (nI k' : Int32) < 0 by rw [← e]; decide) (nI_pos (by omega))
        · exact h3 v k' (by omega) hk' e
    · have hne : ¬ fa 9 n = -1 := fun z => absurd (show (nI k : Int32) < 0 by rw [← h4, z]; decide) (nI_pos (by omega))
      refine ⟨s ||| 2 ^ k, Nat.or_lt_two_pow h1 (Nat.pow_lt_pow_of_lt (by omega) hk), ?_, fun v k' hv hk' e => ?_⟩
      · show zid fa n ||| (if fa 9 n = -1 then (0 : Int32) else (1 : Int32) <<< (fa 9 n &&& 31)) = _
        rw [if_neg hne, h2, h4, zb_shl (by omega), zb_or]
      · rw [Nat.testBit_or]
        by_cases c : v = n
        · subst c
          rw [h4] at e
          have : k = k' := (nI_eq (by omega) (by omega)).mp e
          subst this
          rw [Nat.testBit_two_pow_self, Bool.or_true]
        · rw [h3 v k' (by omega) hk' e, Bool.true_or]
theorem zid_bit {fa : Nat → Nat → Int32} {n v k : Nat} (h : zIr fa n) (hv : v < n) (hk : k < 10) (e : fa 9 v = nI k) : ((zid fa n >>> (nI k &&& 31)) &&& 1) = 1 := by
  obtain ⟨s, h1, h2, h3⟩ := zid_n h
  rw [h2]
  exact (zbt_1 (Nat.lt_trans h1 (by decide)) (by omega)).mpr (by rw [zbt_t]; exact h3 v k hv hk e)
theorem zidx_map {R : List Nat} {eo : Nat → Nat} {v : Nat} (hv : v ∈ R) (hj : ∀ u ∈ R, eo u = eo v → u = v) : zidx (R.map eo) (eo v) = nI (R.idxOf v) := by
  unfold zidx
  rw [if_pos (List.mem_map_of_mem hv)]
  congr 1
  induction R with
  | nil => cases hv
  | cons a R ih =>
    rw [List.map_cons, List.idxOf_cons, List.idxOf_cons]
    by_cases c : a = v
    · subst c
      simp
    · have c2 : ¬ eo a = eo v := fun z => c (hj a (List.mem_cons_self) z)
      rw [beq_eq_false_iff_ne.mpr c, beq_eq_false_iff_ne.mpr c2]
      simp only [cond_false]
      congr 1
      exact ih ((List.mem_cons.mp hv).resolve_left (fun z => c z.symm)) (fun u hu => hj u (List.mem_cons_of_mem _ hu))
/-- events of different numbers are different things -/
theorem zef_inj {g : zG} {fa : Nat → Nat → Int32} {eo : Nat → Nat} {u v : Nat} (hu : zGo g 4 (eo u) = some (zef fa u)) (hv : zGo g 4 (eo v) = some (zef fa v)) (u80 : u < 80) (v80 : v < 80) (e : eo u = eo v) : u = v := by
  rw [e, hv] at hu
  have := Option.some.inj hu
  unfold zef at this
  injection this with h1 _
  injection h1 with h1
  exact ((nI_eq (by omega) (by omega)).mp h1).symm
section AFR
variable {X : zX} {d : Nat} {g : zG} {K : Option Value → zG → Prop} {KX : String → zG → Prop} {i x : Nat} {ad mo fo eo : Nat → Nat} {np : Nat} {t : Int32} {fi : Nat → Int32} {fa : Nat → Nat → Int32}
theorem mt_answerFor_l (hok : zOk X) (hi : i < 6) (hc : zFc i np fa) (hj : zMj mo np) {tl al ql : Nat} {Ls : List Nat} {n v : Nat} {x3 : Int32} (htl : 64 ≤ tl) (htu : tl < 1000) (hne : tl ≠ 82 + 3 * i) (hLi : zLi fi fa Ls) (hI : zIr fa n) (hvn : v < n) (hvL : v ∈ Ls) {g0 : zG} {q0 : Nat} (hz0 : zGz g0 + q0 + 400 ≤ zz X) (hd : 104 ≤ d) {E : zM} (C : zC X (d + 1) E RX8 cX8_answerFor 8 (some .int) "answerFor") (hQ : zQ X E K KX)
    (hK : ∀ (g' : zG) (q' : Nat) (l' : List Nat), zFe (zPr i) g0 g' → zGz g' + q' ≤ zGz g0 + q0 → zLs X g' (82 + 3 * i) (mo 3) l' q' → zMs X i x ad mo fo np t fi fa g' → K (some (.int (zAn fi fa i np Ls n v))) g') : ∀ (c k : Nat) (g : zG) (q : Nat) (l : List Nat), 10 = k + c → zFe (zPr i) g0 g → zGz g + q ≤ zGz g0 + q0 → zLs X g (82 + 3 * i) (mo 3) l q → zMs X i x ad mo fo np t fi fa g → zLA X tl al ql eo fa Ls g → (fa 21 i = 0 → k ≤ 1) →
    GW X E 8 g 15 [(0, .ref (mo 0)), (1, .ref (eo v)), (2, .ref al), (3, .int x3), (4, .int (zFd fi fa (zid fa n) i np Ls k v)), (5, .int (zid fa n)), (6, .int (nI k))] []
  | c, k, g, q, l, hk, hF, hz, hL, hM, hA, hpl => by
    have hev := hA.2 v hvL
    have hout : (fa 21 i = 0 → k = 1) → (¬ fa 21 i = 0 → k = 10) → K (some (.int (zFd fi fa (zid fa n) i np Ls k v))) g := fun h1 h2 => by
      have := hK g q l hF hz hL hM
      unfold zAn at this
      by_cases c1 : fa 21 i = 0
      · rw [h1 c1, zFd_pl c1]
        rw [zFd_pl c1] at this
        exact this
      · rw [h2 c1]
        exact this
    -- the next turn
    have again : k < 10 → ∀ (g' : zG) (q' : Nat) (l' : List Nat), zFe (zPr i) g0 g' → zGz g' + q' ≤ zGz g0 + q0 → zLs X g' (82 + 3 * i) (mo 3) l' q' → zMs X i x ad mo fo np t fi fa g' → zLA X tl al ql eo fa Ls g' → (fa 21 i = 0 → k + 1 ≤ 1) → ∀ w : Int32, w = zFd fi fa (zid fa n) i np Ls (k + 1) v → GW X E 8 g' 15 [(0, .ref (mo 0)), (1, .ref (eo v)), (2, .ref al), (3, .int x3), (4, .int w), (5, .int (zid fa n)), (6, .int (nI k + 1))] [] := by
      intro hk10 g' q' l' e1 e2 e3 e4 e5 e6 w hw
      subst hw
      rw [← nI_succ]
      match c, hk with
      | 0, hk => exact absurd hk (by omega)
      | c + 1, hk => exact mt_answerFor_l hok hi hc hj htl htu hne hLi hI hvn hvL hz0 hd C hQ hK c (k + 1) g' q' l' (by omega) e1 e2 e3 e4 e5 e6
    -- one that is meant
    have meant : k < 10 → (fa 21 i = 0 → k + 1 ≤ 1) → v ∈ zRn fa (zid fa n) i Ls k → GW X E 8 g 73 [(0, .ref (mo 0)), (1, .ref (eo v)), (2, .ref al), (3, .int x3), (4, .int (zFd fi fa (zid fa n) i np Ls k v)), (5, .int (zid fa n)), (6, .int (nI k))] [.int 1] := by
      intro hk10 hp1 hmem
      have hF1 : zFd fi fa (zid fa n) i np Ls (k + 1) v = zAnd (zFd fi fa (zid fa n) i np Ls k v) (zVv fi fa (192 + 24 * i) (zRn fa (zid fa n) i Ls k) (np - 1) ((zRn fa (zid fa n) i Ls k).idxOf v)) := by
        show (if v ∈ zRn fa (zid fa n) i Ls k then _ else zFd fi fa (zid fa n) i np Ls k v) = _
        rw [if_pos hmem]
      have ask : ∀ id : Int32, Ls.filter (zfi fa id) = zRn fa (zid fa n) i Ls k → ∀ (g1 : zG) (q1 : Nat) (F : Nat → Nat → Int32), zFe (zPr i) g g1 → zGz g1 + q1 ≤ zGz g + q → zLs X g1 (82 + 3 * i) (mo 3) ((Ls.filter (zfi fa id)).map eo) q1 → zRc X i x (mo 2) (mo 3) (mo 1) (mo 4) np (192 + 24 * i) (fun p => mo (6 + p)) fo eo (Ls.filter (zfi fa id)) (zxs ad fi) fi fa g1 F → zMs X i x ad mo fo np t fi fa g1 → ∀ (K2 : Option Value → zG → Prop), (∀ (g2 : zG) (w : Int32), w = zFd fi fa (zid fa n) i np Ls (k + 1) v → GW X E 8 g2 15 [(0, .ref (mo 0)), (1, .ref (eo v)), (2, .ref al), (3, .int x3), (4, .int w), (5, .int (zid fa n)), (6, .int (nI k + 1))] [] → K2 (some (.int w)) g2) → zCal X d yJ2_indexOf wJ2_indexOf [.ref (mo 3), .ref (eo v)] g1 (fun r g_14 => ∃ v_15 : Int32, r = some (.int v_15) ∧ zIs g_14 9 (mo 2) ∧ zCal X d yX9_at wX9_at [.ref (mo 2), .ref (fo (np - 1)), .int v_15] g_14 (fun r g_16 => ∃ v_17 : Int32, r = some (.int v_17) ∧ zCal X d yX1_and wX1_and [.int (zFd fi fa (zid fa n) i np Ls k v), .int v_17] g_16 K2 KX) KX) KX := by
        intro id hid g1 q1 F e1 e2 e3 e4 e5 K2 hK2
        have hmR : v ∈ Ls.filter (zfi fa id) := by rw [hid]; exact hmem
        have hLR := hLi.sub (List.filter_sublist (p := zfi fa id))
        have hev1 : ∀ u ∈ Ls.filter (zfi fa id), zGo g1 4 (eo u) = some (zef fa u) := e4.1.2.2.2.2.2.1
        have h0 := hc.2.2.1
        have h24 := hc.2.1
        obtain ⟨d', hd'⟩ : ∃ d', d = d' + 2 := ⟨d - 2, by omega⟩
        rw [hd']
        refine ls_indexOf hok e3 (by omega) ⟨4, _, hev1 v hmR, rfl⟩ ⟨_, rfl, ⟨9, _, e5.2.2.2.2.1, rfl⟩, ?_⟩
        rw [zidx_map hmR (fun u hu e => zef_inj (hev1 u hu) (hev1 v hmR) (hLR.2.2.2.2.2.2 u hu) (hLR.2.2.2.2.2.2 v hmR) e)]
        refine rp_at hok hi (hLR.rs hc hj) np (np - 1) (by omega) (by omega) (d' + 2) g1 F _ _ KX (by omega) e4 (zr_idx hmR).1 (fun g2 F2 b1 b2 => ⟨_, rfl, cp_and hok ?_⟩)
        rw [hid] at b1 b2 e3 e4 ⊢
        have hM2 := e5.fe' b2.1.fe (by unfold zPr; omega) (by unfold zPr; omega) (by unfold zPr; omega) (by unfold zPr; omega) ⟨b1.1.1, b1.1.2.2.2.1, fun p hp => ⟨_, b1.2.1 p hp⟩⟩
        have hE : zFe (zPr i) g g2 := e1.trans b2.1.fe
        refine hK2 g2 _ hF1.symm ?_
        exact again hk10 g2 q1 _ (hF.trans hE) (by rw [b2.1.2.2.2.1]; omega) (e3.eq b2.1) hM2 (hA.fe hE (by unfold zPr; omega) (by unfold zPr; omega)) hp1 _ hF1.symm
      have lay : ∀ id : Int32, Ls.filter (zfi fa id) = zRn fa (zid fa n) i Ls k → ∀ (K2 : Option Value → zG → Prop), (∀ (g1 : zG) (q1 : Nat) (F : Nat → Nat → Int32), zFe (zPr i) g g1 → zGz g1 + q1 ≤ zGz g + q → zLs X g1 (82 + 3 * i) (mo 3) ((Ls.filter (zfi fa id)).map eo) q1 → zRc X i x (mo 2) (mo 3) (mo 1) (mo 4) np (192 + 24 * i) (fun p => mo (6 + p)) fo eo (Ls.filter (zfi fa id)) (zxs ad fi) fi fa g1 F → zMs X i x ad mo fo np t fi fa g1 → K2 none g1) → zCal X d yX9_lay wX9_lay [.ref (mo 2), .ref al, .int id] g K2 KX := by
        intro id hid K2 hK2
        refine rp_lay (id := id) hok hi hc.2.1 hj htl hne hLi.1 (q0 := q) (by omega) (by omega) hL hM.2.2.2.2 hA.1 hA.2 (fun g1 q1 F e1 e2 e3 e4 e5 => ?_)
        have hM1 := hM.fe' e1 (by unfold zPr; omega) (by unfold zPr; omega) (by unfold zPr; omega) (by unfold zPr; omega) e4
        have hE1 : ∀ v ∈ Ls.filter (zfi fa id), zGo g1 4 (eo v) = some (zef fa v) := fun v hv => e1.1 4 (by unfold zPr; omega) _ _ (hA.2 v (List.mem_filter.mp hv).1)
        exact hK2 g1 q1 F e1 e2 e3 ⟨hM1.ro e3 hE1, fun p hp => (e5 p hp).1, fun p hp e he => Or.inl ((e5 p hp).2 e he)⟩ hM1
      have fill : ∀ id : Int32, ∀ (g1 : zG) (q1 : Nat) (F : Nat → Nat → Int32), zFe (zPr i) g g1 → zGz g1 + q1 ≤ zGz g + q → zLs X g1 (82 + 3 * i) (mo 3) ((Ls.filter (zfi fa id)).map eo) q1 → zRc X i x (mo 2) (mo 3) (mo 1) (mo 4) np (192 + 24 * i) (fun p => mo (6 + p)) fo eo (Ls.filter (zfi fa id)) (zxs ad fi) fi fa g1 F → zMs X i x ad mo fo np t fi fa g1 → ∀ (K2 : Option Value → zG → Prop), (∀ (g1 : zG) (F : Nat → Nat → Int32), zFe (zPr i) g g1 → zGz g1 + q1 ≤ zGz g + q → zLs X g1 (82 + 3 * i) (mo 3) ((Ls.filter (zfi fa id)).map eo) q1 → zRc X i x (mo 2) (mo 3) (mo 1) (mo 4) np (192 + 24 * i) (fun p => mo (6 + p)) fo eo (Ls.filter (zfi fa id)) (zxs ad fi) fi fa g1 F → zMs X i x ad mo fo np t fi fa g1 → K2 none g1) → zCal X d yX9_fill wX9_fill [.ref (mo 2)] g1 K2 KX := by
        intro id g1 q1 F e1 e2 e3 e4 e5 K2 hK2
        have h24 := hc.2.1
        have hLR := hLi.sub (List.filter_sublist (p := zfi fa id))
        refine rp_fill hok hi (hLR.rs hc hj) (by omega) e4 (fun g2 F2 b1 b2 b3 => ?_)
        exact hK2 g2 F2 (e1.trans b2.fe) (by rw [b2.2.2.2.1]; exact e2) (e3.eq b2) b1 (e5.fe' b2.fe (by unfold zPr; omega) (by unfold zPr; omega) (by unfold zPr; omega) (by unfold zPr; omega) ⟨b1.1.1, b1.1.2.2.2.1, fun p hp => ⟨_, b1.2.1 p hp⟩⟩)
      refine bX8_answerFor_73 (d := d) C hQ g _ _ _ _ _ _ _ _ ⟨fun z => absurd z (by decide), fun _ => ⟨_, _, hM.1, rfl, _, _, hM.1, rfl, fun c1 => ⟨⟨9, _, hM.2.2.2.2.1, rfl⟩, ?_⟩, fun c1 => ⟨⟨9, _, hM.2.2.2.2.1, rfl⟩, ?_⟩⟩⟩
      · have hid : Ls.filter (zfi fa (-1)) = zRn fa (zid fa n) i Ls k := by
          unfold zRn zak
          rw [if_pos c1, show k = 0 by have := hp1 c1; omega, zfi_p, zfl_p c1]
          rfl
        refine lay (-1) hid _ (fun g1 q1 F e1 e2 e3 e4 e5 => ⟨rfl, fun _ => ⟨_, _, e5.1, rfl, _, _, e5.1, rfl, _, _, e5.1, rfl, _, _, e5.2.2.2.2.1, rfl, e3.is (by omega), ask (-1) hid g1 q1 F e1 e2 e3 e4 e5 _ (fun g2 w hw h => ⟨_, rfl, h⟩)⟩, fun _ => ⟨_, _, e5.1, rfl, ⟨9, _, e5.2.2.2.2.1, rfl⟩, fill (-1) g1 q1 F e1 e2 e3 e4 e5 _ (fun g1 F e1 e2 e3 e4 e5 => ⟨rfl, _, _, e5.1, rfl, _, _, e5.1, rfl, _, _, e5.1, rfl, _, _, e5.2.2.2.2.1, rfl, e3.is (by omega), ask (-1) hid g1 q1 F e1 e2 e3 e4 e5 _ (fun g2 w hw h => ⟨_, rfl, h⟩)⟩)⟩⟩)
      · have hid : Ls.filter (zfi fa (nI k)) = zRn fa (zid fa n) i Ls k := by
          rw [zfi_s c1 hk10]
          unfold zRn at hmem ⊢
          by_cases cz : zak fa (zid fa n) i k = true
          · rw [if_pos cz]
          · rw [if_neg cz] at hmem
            cases hmem
        refine lay (nI k) hid _ (fun g1 q1 F e1 e2 e3 e4 e5 => ⟨rfl, fun _ => ⟨_, _, e5.1, rfl, _, _, e5.1, rfl, _, _, e5.1, rfl, _, _, e5.2.2.2.2.1, rfl, e3.is (by omega), ask (nI k) hid g1 q1 F e1 e2 e3 e4 e5 _ (fun g2 w hw h => ⟨_, rfl, h⟩)⟩, fun _ => ⟨_, _, e5.1, rfl, ⟨9, _, e5.2.2.2.2.1, rfl⟩, fill (nI k) g1 q1 F e1 e2 e3 e4 e5 _ (fun g1 F e1 e2 e3 e4 e5 => ⟨rfl, _, _, e5.1, rfl, _, _, e5.1, rfl, _, _, e5.1, rfl, _, _, e5.2.2.2.2.1, rfl, e3.is (by omega), ask (nI k) hid g1 q1 F e1 e2 e3 e4 e5 _ (fun g2 w hw h => ⟨_, rfl, h⟩)⟩)⟩⟩)
    have not : k < 10 → (fa 21 i = 0 → k + 1 ≤ 1) → ¬ v ∈ zRn fa (zid fa n) i Ls k → GW X E 8 g 72 [(0, .ref (mo 0)), (1, .ref (eo v)), (2, .ref al), (3, .int x3), (4, .int (zFd fi fa (zid fa n) i np Ls k v)), (5, .int (zid fa n)), (6, .int (nI k))] [] := by
      intro hk10 hp1 hmem
      refine bX8_answerFor_72 (d := d) C hQ g _ _ _ _ _ _ _ (bX8_answerFor_73 (d := d) C hQ g _ _ _ _ _ _ _ _ ⟨fun _ => ?_, fun z => absurd rfl z⟩)
      refine again hk10 g q l hF hz hL hM hA hp1 _ ?_
      show _ = (if v ∈ zRn fa (zid fa n) i Ls k then _ else zFd fi fa (zid fa n) i np Ls k v)
      rw [if_neg hmem]
    refine bX8_answerFor_15 (d := d) C hQ g _ _ _ _ _ _ _ ⟨_, _, hM.1, rfl, fun c1 => bX8_answerFor_30 (d := d) C hQ g _ _ _ _ _ _ _ _ _ ⟨fun z => hout (fun _ => ?_) (fun z' => absurd c1 z'), fun z => ⟨_, _, hM.1, rfl, fun _ => ?_, fun z' => absurd c1 z'⟩⟩, fun c1 => bX8_answerFor_30 (d := d) C hQ g _ _ _ _ _ _ _ _ _ ⟨fun z => hout (fun z' => absurd z' c1) (fun _ => ?_), fun z => ⟨_, _, hM.1, rfl, fun z' => absurd z' c1, fun _ => ?_⟩⟩⟩
    · have h1 := hpl c1
      have h2 : ¬ k = 0 := fun e => by
        subst e
        exact absurd z (by decide)
      omega
    · have h1 := hpl c1
      have h2 : k = 0 := by
        by_cases e : k = 1
        · subst e
          exact absurd (show (1 : Int32) ≤ nI 1 by decide) z
        · omega
      subst h2
      refine bX8_answerFor_68 (d := d) C hQ g _ _ _ _ _ _ _ (meant (by omega) (fun _ => Nat.le_refl _) ?_)
      unfold zRn zak
      rw [if_pos c1, zfl_p c1]
      simpa using hvL
    · by_cases e : k < 10
      · exact absurd (show (nI 10 : Int32) ≤ nI k from z) (nI_ge (by omega) (by omega))
      · omega
    · have hk10 : k < 10 := by
        by_cases e : k < 10
        · exact e
        · have : k = 10 := by omega
          subst this
          exact absurd (show (10 : Int32) ≤ nI 10 by decide) z
      have hp1 : fa 21 i = 0 → k + 1 ≤ 1 := fun z' => absurd z' c1
      have mem : v ∈ zRn fa (zid fa n) i Ls k ↔ ((zid fa n >>> (nI k &&& 31)) &&& 1) = 1 ∧ (fa 9 v = nI k ∨ fa 9 v = -1) := by
        unfold zRn zak
        rw [if_neg c1]
        by_cases cb : ((zid fa n >>> (nI k &&& 31)) &&& 1) = 1
        · rw [beq_iff_eq.mpr cb, if_pos rfl, List.mem_filter]
          unfold zfl
          rw [beq_eq_false_iff_ne.mpr c1]
          simp [hvL, cb]
        · rw [beq_eq_false_iff_ne.mpr cb]
          simp [cb]
      refine ⟨_, _, hev, rfl, fun c2 => bX8_answerFor_68 (d := d) C hQ g _ _ _ _ _ _ _ (meant hk10 hp1 (mem.mpr ⟨zid_bit hI hvn hk10 c2, Or.inl c2⟩)), fun c2 => ⟨_, _, hev, rfl, fun c3 => not hk10 hp1 (fun z => ?_), fun c3 => ⟨fun c4 => not hk10 hp1 (fun z => c4 (mem.mp z).1), fun c4 => bX8_answerFor_68 (d := d) C hQ g _ _ _ _ _ _ _ (meant hk10 hp1 (mem.mpr ⟨c4, Or.inr c3⟩))⟩⟩⟩
      rcases (mem.mp z).2 with h | h
      · exact c2 h
      · exact c3 h
/-- answerFor: the model's answer -/
theorem mt_answerFor (hok : zOk X) (hi : i < 6) (hc : zFc i np fa) (hj : zMj mo np) {tl al ql : Nat} {Ls l0 : List Nat} {n v pe : Nat} {x3 : Int32} (htl : 64 ≤ tl) (htu : tl < 1000) (hne : tl ≠ 82 + 3 * i) (hLi : zLi fi fa Ls) (hI : zIr fa n) (hn : n ≤ 80) (hvn : v < n) (hvL : v ∈ Ls) {q0 : Nat} (hz : zGz g + q0 + 400 ≤ zz X) {D : Nat} (hD : 105 ≤ D)
    (hEv : zEv X ad eo n fa pe g) (hM : zMs X i x ad mo fo np t fi fa g) (hL : zLs X g (82 + 3 * i) (mo 3) l0 q0) (hA : zLA X tl al ql eo fa Ls g)
    (hK : ∀ (g' : zG) (q' : Nat) (l' : List Nat), zFe (zPr i) g g' → zGz g' + q' ≤ zGz g + q0 → zLs X g' (82 + 3 * i) (mo 3) l' q' → zMs X i x ad mo fo np t fi fa g' → K (some (.int (zAn fi fa i np Ls n v))) g') : zCal X D yX8_answerFor wX8_answerFor [.ref (mo 0), .ref (eo v), .ref al, .int x3] g K KX := by
  obtain ⟨d, rfl⟩ : ∃ d, D = d + 1 := ⟨D - 1, by omega⟩
  refine mX8_answerFor (d := d) hok _ _ _ _ (fun E C hQ => ⟨_, _, hM.1, rfl, ⟨1, _, hM.2.1, rfl⟩, cx_ids hok hn hM.2.1 hEv (by omega) ⟨_, rfl, ?_⟩⟩)
  rw [show (0 : Int32) = nI 0 from nI_0.symm]
  exact mt_answerFor_l (d := d) (g0 := g) (q0 := q0) hok hi hc hj htl htu hne hLi hI hvn hvL hz (by omega) C hQ hK 10 0 g q0 l0 (by omega) (zFe.rf _ _) (Nat.le_refl _) hL hM hA (fun _ => by omega)
end AFR
