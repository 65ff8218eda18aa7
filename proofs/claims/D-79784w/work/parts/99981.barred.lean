set_option maxRecDepth 100000
/-- what isBarred may change -/
def zPq (k : Nat) : Prop := k = 1 ∨ k = 11 ∨ k = 70 ∨ k = 1051 ∨ (80 ≤ k ∧ k < 98) ∨ (1052 ≤ k ∧ k < 1058)
theorem zbI_t {b : Bool} (h : b = true) : zbI b = 1 := by rw [h]; rfl
theorem zbI_f {b : Bool} (h : b = false) : zbI b = 0 := by rw [h]; rfl
section BA1
variable {X : zX} {d : Nat} {g : zG} {K : Option Value → zG → Prop} {KX : String → zG → Prop} {i x : Nat} {ad mo fo eo : Nat → Nat} {np : Nat} {t : Int32} {fi : Nat → Int32} {fa : Nat → Nat → Int32}
theorem cx_barred_e (hok : zOk X) {n a a5 al q p1 p2 : Nat} (hn : n ≤ 79) {x3 : Int32} {b : Bool} {ans kp sc : Nat → Int32} {f : Nat → Int32} {l : List Nat} {E : zM} (C : zC X (d + 3) E RX1 cX1_isBarred 8 (some .boolean) "isBarred") (hQ : zQ X E K KX) (hx : zGo g 1 x = some (zxs ad fi)) (hM : zMs X i x ad mo fo np t fi fa g) (hgd : ¬ fa 22 i = 0) (hEv : zEv X ad eo n fa p1 g) (hKn : zKn X i (mo 5) n kp sc p2 g) (hL : zLs X g 70 al l q) (hlen : l.length = n + 1) (hf : zGi g 51 (ad 10) = some (80, f)) (hfa : ∀ k, k < n + 1 → f k = ans k)
    (hK : GW X E 8 g 51 [(0, .ref x), (1, .ref a), (2, .ref al), (3, .int x3), (4, .int (zbI (b || zgd1 ans kp (n + 1) (n + 1)))), (5, .ref a5)] []) : ∀ c k : Nat, n + 1 = k + c → GW X E 8 g 113 [(0, .ref x), (1, .ref a), (2, .ref al), (3, .int x3), (4, .int (zbI (b || zgd1 ans kp (n + 1) k))), (5, .ref a5), (6, .ref (mo 0)), (7, .int (nI k))] []
  | 0, k, hc => by
    have : n + 1 = k := by omega
    subst this
    refine bX1_isBarred_113 (d := d + 2) C hQ g _ _ _ _ _ _ _ _ ⟨hL.is (by omega), ls_size hok hL (by omega) ⟨_, rfl, fun _ => hK, fun z => absurd (show nI l.length ≤ nI (n + 1) by rw [hlen]; exact Int32.le_refl _) z⟩⟩
  | c + 1, k, hc => by
    have hkn : k < n + 1 := by omega
    have ih := cx_barred_e hok hn C hQ hx hM hgd hEv hKn hL hlen hf hfa hK c (k + 1) (by omega)
    have hst : (b || zgd1 ans kp (n + 1) (k + 1)) = ((b || zgd1 ans kp (n + 1) k) || (ans k == 0 && (k + 1 == n + 1 || !(kp k == 0)))) := (Bool.or_assoc _ _ _).symm
    rw [hst, nI_succ] at ih
    generalize (b || zgd1 ans kp (n + 1) k) = s at ih ⊢
    obtain ⟨lk, k1, k2, k3⟩ := id hKn
    refine bX1_isBarred_113 (d := d + 2) C hQ g _ _ _ _ _ _ _ _ ⟨hL.is (by omega), ls_size hok hL (by omega) ⟨_, rfl, fun z => absurd z (by rw [hlen]; exact nI_ge (by omega) (by omega)), fun _ => ⟨_, _, hM.1, rfl, fun z => absurd z hgd, fun _ => ⟨fun c1 => ?_, fun c1 => ⟨_, _, hx, rfl, 80, f, hf, vp_in_nI (by omega) (by omega), fun v9 e9 => ?_⟩⟩⟩⟩⟩
    · have hs : s = true := by
        cases s with
        | true => rfl
        | false => exact absurd rfl c1
      rw [hs] at ih
      exact ih
    · have hs : s = false := by
        cases s with
        | false => rfl
        | true => exact absurd c1 (by decide)
      subst hs
      rw [nI_clamp (by omega), hfa k hkn] at e9
      subst e9
      refine ⟨fun c2 => ?_, fun c2 => ⟨_, _, hx, rfl, hEv.1.is (by omega), ls_size hok hEv.1 (by omega) ⟨_, rfl, fun c3 => ?_, fun c3 => ?_⟩⟩⟩
      · rw [show (false || (ans k == 0 && (k + 1 == n + 1 || !(kp k == 0)))) = false by simp [c2]] at ih
        exact ih
      · rw [List.length_map, List.length_range] at c3
        have : k = n := (nI_eq (by omega) (by omega)).mp c3
        rw [show (false || (ans k == 0 && (k + 1 == n + 1 || !(kp k == 0)))) = true by rw [c2, this]; simp] at ih
        exact ih
      · rw [List.length_map, List.length_range] at c3
        have hk : k < n := by
          have : ¬ k = n := fun z => c3 (by rw [z])
          omega
        have hkn' : ¬ k = n := by omega
        obtain ⟨j1, j2, q1, q2, q3, q4, q5⟩ := k3 k hk
        refine ⟨_, _, hM.1, rfl, k2.is (by omega), ls_get (d := d) hok k2 (by omega) (by omega) ?_⟩
        rw [← zr_el (by omega)]
        refine ⟨_, rfl, _, rfl, ⟨6, _, q5, rfl⟩, _, _, q5, rfl, ⟨j1 + 128, by omega, rfl⟩, j1 + 128, by omega, rfl, fun v22 e22 => ?_⟩
        rw [vb_j, ← q3] at e22
        subst e22
        refine ⟨fun c4 => ?_, fun c4 => ?_⟩
        · rw [show (false || (ans k == 0 && (k + 1 == n + 1 || !(kp k == 0)))) = false by simp [c4, hkn']] at ih
          exact ih
        · rw [show (false || (ans k == 0 && (k + 1 == n + 1 || !(kp k == 0)))) = true by simp [c2, c4]] at ih
          exact ih
end BA1
section BA2
variable {X : zX} {d : Nat} {x : Nat} {ad fo eo : Nat → Nat} {mo : Nat → Nat → Nat} {c : Nat → Nat × Nat × Nat} {pt pt' : Nat → Nat} {fi fi' : Nat → Int32} {fa fa' : Nat → Nat → Int32} {lg : List Nat} {M P : Nat} {np sz : Nat → Nat} {B : Nat} {g g' : zG} {Q : Nat → Prop} {K : Option Value → zG → Prop} {KX : String → zG → Prop}
theorem zPf_q {i : Nat} (hi : i < 6) : ∀ k, zPf i k → zPq k := fun k hk => by
  unfold zPf zPr at hk
  unfold zPq
  omega
/-- the loop over all monitors: fi1 holds the present with the event, FA the numbers with it -/
theorem cx_barred_l (hok : zOk X) {n a a5 al q0 : Nat} {fi1 : Nat → Int32} {FA : Nat → Nat → Int32} {Ls : List Nat} {eo' : Nat → Nat} {nd t kd ix vl lt : Int32} (hn : n ≤ 79) (hM6 : M ≤ 6) (hnl : lg.length = n) (hFA : ∀ j, j < 6 ∨ 11 < j → FA j = fa j) (hix : FA 9 n = ix) (hid : zid FA n = zid fa n) (hLi : zLi fi1 FA Ls) (hFc : ∀ i, i < M → zFc i (np i) fa) (hj : ∀ i, i < M → zMj (mo i) (np i)) (hx5 : ∀ g1 : zG, zGo g1 1 x = some (zxs ad (va_up fi1 5 (fi 5))) → zGo g1 1 x = some (zxs ad fi)) {B : Nat} (hB : B + 400 ≤ zz X) {mc : Int32} {cap : Nat} {E : zM} (hd : 106 ≤ d) (C : zC X (d + 1) E RX1 cX1_isBarred 8 (some .boolean) "isBarred") (hQ : zQ X E K KX) {g0 : zG}
    (hK : ∀ (g' : zG) (pt' : Nat → Nat), zFe zPq g0 g' → zGz g' + zpT pt' ≤ B → zWd X x ad fo eo mo c pt' fi fa lg M P np sz g' → K (some (.int (zbI (zgd (fa 22) (fun i => zAn fi1 FA i (np i) Ls (n + 1)) (fun i e => fa 25 (80 * i + e)) (n + 1) M)))) g') : ∀ (cc k : Nat) (g : zG) (pt : Nat → Nat), M = k + cc → zFe zPq g0 g → zGz g + zpT pt ≤ B → zWd X x ad fo eo mo c pt fi1 fa lg M P np sz g → zGo g 4 a = some [.int (nI n), .int t, .int nd, .int kd, .int ix, .int vl, .int lt] → zLA X 70 al q0 eo' FA Ls g → Ls.length = n + 1 → zL X g 68 (ad 9) mc ((List.range M).map (fun i => mo i 0)) cap → zIt g a5 (ad 9) k mc →
    GW X E 8 g 51 [(0, .ref x), (1, .ref a), (2, .ref al), (3, .int (fi 5)), (4, .int (zbI (zgd (fa 22) (fun i => zAn fi1 FA i (np i) Ls (n + 1)) (fun i e => fa 25 (80 * i + e)) (n + 1) k))), (5, .ref a5)] []
  | 0, k, g, pt, hk, hF, hz, hW, ha, hA, hLl, hL, hI => by
    have : M = k := by omega
    subst this
    have w1 := hW.1.1
    refine bX1_isBarred_51 (d := d) C hQ g _ _ _ _ _ _ ⟨hI.is, sp_hasNext hok hL (by omega) hI (by rw [List.length_map, List.length_range]; omega) (fun _ => ⟨0, rfl, Or.inl rfl, fun _ => ⟨_, w1, by simp [zxs], fun g1 e1 => ⟨zbI_b _, ?_⟩⟩, fun z => absurd rfl z⟩) (fun z => absurd z (by rw [List.length_map, List.length_range]; omega))⟩
    have f1 : zFe (fun k => k = 1) g g1 := by
      rw [e1]
      exact zFe.so rfl
    have x1 : zGo g1 1 x = some (zxs ad fi) := hx5 g1 (by
      rw [e1, zSo_o, zup_s]
      rfl)
    have z1 : zGz g1 = zGz g := by rw [e1]; rfl
    exact hK g1 pt (hF.trans (f1.mono (fun k hk => Or.inl hk))) (by omega) (hW.nx hM6 f1 x1 (fun k _ h1 _ _ => h1) (fun k _ _ => by omega) (fun k _ _ => by omega))
  | cc + 1, k, g, pt, hk, hF, hz, hW, ha, hA, hLl, hL, hI => by
    have hkM : k < M := by omega
    have hlen : ((List.range M).map (fun i => mo i 0)).length = M := by rw [List.length_map, List.length_range]
    have hzr : zr ((List.range M).map (fun i => mo i 0)) k = mo k 0 := by
      rw [zr_el (by omega), List.getElem_map, List.getElem_range]
    refine bX1_isBarred_51 (d := d) C hQ g _ _ _ _ _ _ ⟨hI.is, sp_hasNext hok hL (by omega) hI (by omega) (fun z => absurd z (by omega)) (fun _ => ⟨1, rfl, Or.inr rfl, fun z => absurd z (by decide), fun _ => ⟨hI.is, it_next' hok hL (by omega) hI (by omega) (by omega) (fun g1 a1' a2 a3 a4 => ⟨_, rfl, _, rfl, ?_⟩)⟩⟩)⟩
    rw [hzr]
    have hW1 : zWd X x ad fo eo mo c pt fi1 fa lg M P np sz g1 := ⟨hW.1.fe a2 (fun k _ _ _ _ h => h) (fun k _ _ => by omega) (by omega) (by omega), fun i hi => (hW.2 i hi).fe (by omega) a2 (fun k _ _ h => h) (by omega) (by omega) (by omega) (by omega)⟩
    have ha1 := a2.1 4 (by omega) _ _ ha
    have hA1 := hA.fe a2 (by omega) (by omega)
    have hL1 := hL.fe a2 (by omega)
    have hF1 : zFe zPq g0 g1 := hF.trans (a2.mono (fun k hk => Or.inr (Or.inl hk)))
    obtain ⟨m1, ⟨l0, m2⟩, m3⟩ := hW1.2 k hkM
    obtain ⟨w1, -, w3, w4, -, -, -, ⟨f0, w8⟩, -⟩ := id hW1.1
    have h82 := zpT_le pt (j := 82 + 3 * k) (by omega) (by omega)
    -- on, at a state with the sum's next value
    have on : ∀ (g2 : zG) (pt2 : Nat → Nat), zFe zPq g1 g2 → zGz g2 + zpT pt2 ≤ B → zWd X x ad fo eo mo c pt2 fi1 fa lg M P np sz g2 → zGo g2 4 a = some [.int (nI n), .int t, .int nd, .int kd, .int ix, .int vl, .int lt] → zLA X 70 al q0 eo' FA Ls g2 → zL X g2 68 (ad 9) mc ((List.range M).map (fun i => mo i 0)) cap → zIt g2 a5 (ad 9) (k + 1) mc → ∀ v : Int32, v = zbI (zgd (fa 22) (fun i => zAn fi1 FA i (np i) Ls (n + 1)) (fun i e => fa 25 (80 * i + e)) (n + 1) (k + 1)) → GW X E 8 g2 51 [(0, .ref x), (1, .ref a), (2, .ref al), (3, .int (fi 5)), (4, .int v), (5, .ref a5)] [] := fun g2 pt2 e1 e2 e3 e4 e5 e6 e7 v hv => by
      subst hv
      exact cx_barred_l hok hn hM6 hnl hFA hix hid hLi hFc hj hx5 hB hd C hQ hK cc (k + 1) g2 pt2 (by omega) (hF1.trans e1) e2 e3 e4 e5 hLl e6 e7
    have hs : zgd (fa 22) (fun i => zAn fi1 FA i (np i) Ls (n + 1)) (fun i e => fa 25 (80 * i + e)) (n + 1) (k + 1) = (zgd (fa 22) (fun i => zAn fi1 FA i (np i) Ls (n + 1)) (fun i e => fa 25 (80 * i + e)) (n + 1) k || (!(fa 22 k == 0) && zgd1 (zAn fi1 FA k (np k) Ls (n + 1)) (fun e => fa 25 (80 * k + e)) (n + 1) (n + 1))) := rfl
    obtain ⟨d', hd'⟩ : ∃ d', d = d' + 2 := ⟨d - 2, by omega⟩
    refine ⟨⟨8, _, m1.1, rfl⟩, _, _, m1.1, rfl, fun c0 => ?_, fun c0 => ?_⟩
    · -- no guard
      refine bX1_isBarred_113 (d := d) C hQ g1 _ _ _ _ _ _ _ _ ⟨hA1.1.is (by omega), ls_size hok hA1.1 (by omega) ⟨_, rfl, fun z => absurd z ?_, fun _ => ⟨_, _, m1.1, rfl, fun _ => on g1 pt (zFe.rf _ _) (by omega) hW1 ha1 hA1 hL1 a1' _ ?_, fun z => absurd c0 z⟩⟩⟩
      · rw [List.length_map, hLl]
        exact nI_nle (by omega) (by omega)
      · rw [hs, c0]
        simp
    · -- a guard
      have hFcA : zFc k (np k) FA := (hFc k hkM).cf (fun j j1 j2 => hFA j (by omega))
      have mA : zMs X k x ad (mo k) (fun p => fo (192 + 24 * k + p)) (np k) (fa 24 k) fi1 FA g1 := m1.cg ⟨rfl, rfl, rfl, rfl⟩ (fun j j1 j2 p _ => by rw [hFA j (by omega)]) (by rw [hFA 21 (by omega)]) (by rw [hFA 22 (by omega)])
      have go : ∀ ids : Int32, ids = zid FA (n + 1) → zIs g1 8 (mo k 0) ∧ zCal X d yX8_answersIn wX8_answersIn [.ref (mo k 0), .ref al, .int ids] g1 (fun r g_16 => r = none ∧ GW X E 8 g_16 113 [(0, .ref x), (1, .ref a), (2, .ref al), (3, .int (fi 5)), (4, .int (zbI (zgd (fa 22) (fun i => zAn fi1 FA i (np i) Ls (n + 1)) (fun i e => fa 25 (80 * i + e)) (n + 1) k))), (5, .ref a5), (6, .ref (mo k 0)), (7, .int 0)] []) KX := fun ids hids => by
        subst hids
        refine ⟨⟨8, _, m1.1, rfl⟩, mt_answersIn hok (by omega) hFcA (hj k hkM) (tl := 70) (by omega) (by omega) (by omega) hLi (q0 := pt (82 + 3 * k)) (by omega) (by omega) mA m2 hA1 w8 (fun g2 q' l' f' e1 e2 e3 e4 e5 e6 => ⟨rfl, ?_⟩)⟩
        have m4 : zMs X k x ad (mo k) (fun p => fo (192 + 24 * k + p)) (np k) (fa 24 k) fi1 fa g2 := e4.cg ⟨rfl, rfl, rfl, rfl⟩ (fun j j1 j2 p _ => by rw [hFA j (by omega)]) (by rw [hFA 21 (by omega)]) (by rw [hFA 22 (by omega)])
        have hW2 := hW1.rw' hM6 hkM e1 m4 e3 e5
        have hup := zpT_u pt q' (k := 82 + 3 * k) (by omega) (by omega)
        have npf : ∀ j, (j < 80 ∨ 98 ≤ j) → j < 1000 → ¬ zPf k j := fun j h1 h2 => by unfold zPf zPr; omega
        have ha2 := e1.1 4 (npf 4 (by omega) (by omega)) _ _ ha1
        have hA2 := hA1.fe e1 (npf 70 (by omega) (by omega)) (npf 4 (by omega) (by omega))
        have hL2 := hL1.fe e1 (npf 68 (by omega) (by omega))
        have hI2 := a1'.fe e1 (npf 11 (by omega) (by omega))
        obtain ⟨v1, -, v3, -⟩ := id hW2.1
        have v3' : zEv X ad eo n fa (zpu pt (82 + 3 * k) q' 64) g2 := by
          rw [← hnl]
          exact v3
        obtain ⟨-, -, y3⟩ := hW2.2 k hkM
        rw [hnl] at y3
        have fin := on g2 (zpu pt (82 + 3 * k) q') (e1.mono (zPf_q (by omega))) (by omega) hW2 ha2 hA2 hL2 hI2 _ rfl
        rw [hs, show (!(fa 22 k == 0) && zgd1 (zAn fi1 FA k (np k) Ls (n + 1)) (fun e => fa 25 (80 * k + e)) (n + 1) (n + 1)) = zgd1 (zAn fi1 FA k (np k) Ls (n + 1)) (fun e => fa 25 (80 * k + e)) (n + 1) (n + 1) by simp [c0]] at fin
        subst hd'
        have h0 := cx_barred_e (d := d') (i := k) (b := zgd (fa 22) (fun i => zAn fi1 FA i (np i) Ls (n + 1)) (fun i e => fa 25 (80 * i + e)) (n + 1) k) (ans := zAn fi1 FA k (np k) Ls (n + 1)) (kp := fun e => fa 25 (80 * k + e)) (sc := fun v => fa 26 (80 * k + v)) (f := f') (a5 := a5) (a := a) (x3 := fi 5) hok hn C hQ v1 m4 c0 v3' y3 hA2.1 (by rw [List.length_map]; exact hLl) e5 (fun j hj' => e6 j (by omega)) fin (n + 1) 0 (by omega)
        rw [show zgd1 (zAn fi1 FA k (np k) Ls (n + 1)) (fun e => fa 25 (80 * k + e)) (n + 1) 0 = false from rfl, Bool.or_false, nI_0] at h0
        exact h0
      have hidn : zid FA (n + 1) = zid fa n ||| (if ix = -1 then (0 : Int32) else (1 : Int32) <<< (ix &&& 31)) := by
        show zid FA n ||| (if FA 9 n = -1 then (0 : Int32) else (1 : Int32) <<< (FA 9 n &&& 31)) = _
        rw [hid, hix]
      have w3' : zEv X ad eo n fa (pt 64) g1 := by
        rw [← hnl]
        exact w3
      refine ⟨⟨1, _, w1, rfl⟩, cx_ids hok (by omega) w1 w3' (by omega) ⟨_, rfl, _, _, ha1, rfl, fun c1 => ⟨_, _, ha1, rfl, go _ ?_⟩, fun c1 => go _ ?_⟩⟩
      · rw [hidn, if_neg c1]
      · rw [hidn, if_pos c1]
end BA2
