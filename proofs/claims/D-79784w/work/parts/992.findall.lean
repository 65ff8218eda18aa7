set_option maxRecDepth 100000
/-- one monitor, whatever it knows -/
def zWg (X : zX) (x : Nat) (ad : Nat → Nat) (mo : Nat → Nat) (fo : Nat → Nat) (pt : Nat → Nat) (fi : Nat → Int32) (fa : Nat → Nat → Int32) (np i : Nat) (t : Int32) (m : Nat) (kp sc : Nat → Int32) (g : zG) : Prop :=
  zMs X i x ad mo (fun p => fo (192 + 24 * i + p)) np t fi fa g ∧ (∃ l : List Nat, zLs X g (82 + 3 * i) (mo 3) l (pt (82 + 3 * i))) ∧ zKn X i (mo 5) m kp sc (pt (81 + 3 * i)) g
/-- what finding all may change -/
def zPz (k : Nat) : Prop := k = 8 ∨ k = 11 ∨ k = 1051 ∨ (80 ≤ k ∧ k < 98) ∨ (1052 ≤ k ∧ k < 1058)
section FAL
variable {X : zX} {d : Nat} {x : Nat} {ad fo eo : Nat → Nat} {mo : Nat → Nat → Nat} {c : Nat → Nat × Nat × Nat} {pt pt' : Nat → Nat} {fi : Nat → Int32} {fa : Nat → Nat → Int32} {lg : List Nat} {M P : Nat} {np sz : Nat → Nat} {g g' : zG} {Q : Nat → Prop} {K : Option Value → zG → Prop} {KX : String → zG → Prop}
theorem zWg.fe8 {mo : Nat → Nat} {np i m b : Nat} {t : Int32} {kp sc : Nat → Int32} (h : zWg X x ad mo fo pt fi fa np i t m kp sc g) (hi : i < 6) (e : zFe Q g g') (o : zO8 b g g') (hb : mo 0 ≠ b) (h1 : ¬ Q 1) (h6 : ¬ Q 6) (h7 : ¬ Q 7) (h9 : ¬ Q 9) (k0 : ¬ Q (80 + 3 * i)) (k1 : ¬ Q (81 + 3 * i)) (k2 : ¬ Q (82 + 3 * i)) (k3 : ¬ Q (1052 + i)) : zWg X x ad mo fo pt fi fa np i t m kp sc g' := by
  obtain ⟨⟨a1, a2, ⟨q, a3⟩, a4, a5⟩, ⟨l, b1⟩, c1⟩ := h
  exact ⟨⟨o _ hb _ a1, e.1 1 h1 _ _ a2, ⟨q, a3.fe e k0⟩, fun p hp => e.1 7 h7 _ _ (a4 p hp), a5.fe hi e h9 k3⟩, ⟨l, b1.fe e k2⟩, c1.fe e k1 h6⟩
theorem zWg.fe {mo : Nat → Nat} {np i m : Nat} {t : Int32} {kp sc : Nat → Int32} (h : zWg X x ad mo fo pt fi fa np i t m kp sc g) (hi : i < 6) (e : zFe Q g g') (h1 : ¬ Q 1) (h6 : ¬ Q 6) (h7 : ¬ Q 7) (h8 : ¬ Q 8) (h9 : ¬ Q 9) (k0 : ¬ Q (80 + 3 * i)) (k1 : ¬ Q (81 + 3 * i)) (k2 : ¬ Q (82 + 3 * i)) (k3 : ¬ Q (1052 + i)) : zWg X x ad mo fo pt fi fa np i t m kp sc g' :=
  h.fe8 hi e (e.o8 h8 (mo 0 + 1)) (by omega) h1 h6 h7 h9 k0 k1 k2 k3
theorem zWg.gp {mo : Nat → Nat} {np i m : Nat} {t : Int32} {kp sc : Nat → Int32} (h : zWg X x ad mo fo pt fi fa np i t m kp sc g) (h1 : pt' (81 + 3 * i) = pt (81 + 3 * i)) (h2 : pt' (82 + 3 * i) = pt (82 + 3 * i)) : zWg X x ad mo fo pt' fi fa np i t m kp sc g := by
  unfold zWg at h ⊢
  rw [h1, h2]
  exact h
theorem zWb.gp (h : zWb X x ad fo eo mo c pt fi fa lg M P sz g) (hp : ∀ k, 64 ≤ k → k < 70 → pt' k = pt k) : zWb X x ad fo eo mo c pt' fi fa lg M P sz g := by
  unfold zWb at h ⊢
  rw [hp 64 (by omega) (by omega), hp 65 (by omega) (by omega), hp 66 (by omega) (by omega), hp 67 (by omega) (by omega), hp 68 (by omega) (by omega), hp 69 (by omega) (by omega)]
  exact h
theorem zpT_2 (pt : Nat → Nat) {j k : Nat} (a b : Nat) (hjk : j ≠ k) (h1 : 64 ≤ j) (h2 : j < 98) (h3 : 64 ≤ k) (h4 : k < 98) : zpT (zpu (zpu pt j a) k b) + pt j + pt k = zpT pt + a + b := by
  have e1 := zpT_u pt a h1 h2
  have e2 := zpT_u (zpu pt j a) b h3 h4
  rw [zpu_n _ _ hjk.symm] at e2
  omega
theorem zpT_le2 (pt : Nat → Nat) {j k : Nat} (hjk : j ≠ k) (h1 : 64 ≤ j) (h2 : j < 98) (h3 : 64 ≤ k) (h4 : k < 98) : pt j + pt k ≤ zpT pt := by
  have := zpT_2 pt 0 0 hjk h1 h2 h3 h4
  omega
theorem zpT_le (pt : Nat → Nat) {j : Nat} (h1 : 64 ≤ j) (h2 : j < 98) : pt j ≤ zpT pt := by
  have := zpT_u pt 0 h1 h2
  omega
/-- what monitor i's answers are over the log -/
theorem cx_find_l (hok : zOk X) (hM6 : M ≤ 6) (hn : lg.length ≤ 80) {old : Nat} (ho : old ≤ lg.length) (hLi : zLi fi fa lg) (hFc : ∀ i, i < M → zFc i (np i) fa) (hj : ∀ i, i < M → zMj (mo i) (np i)) (hd0 : ∀ i j, i < M → j < M → mo i 0 = mo j 0 → i = j) {B : Nat} (hB : B + 400 ≤ zz X) {mc : Int32} {cap : Nat} {E : zM} (hd : 106 ≤ d) (C : zC X (d + 1) E RX1 cX1_find 3 none "find") (hQ : zQ X E K KX) {a1 : Nat} {g0 : zG}
    (hK : ∀ (g' : zG) (pt' : Nat → Nat), zFe zPz g0 g' → zGz g' + zpT pt' ≤ B → zWb X x ad fo eo mo c pt' fi fa lg M P sz g' → (∀ i, i < M → zWg X x ad (mo i) fo pt' fi fa (np i) i (ztk fa (zAn fi fa i (np i) lg lg.length) i old lg.length) lg.length (zkq fa (zAn fi fa i (np i) lg lg.length) i lg.length) (zsq fa (zAn fi fa i (np i) lg lg.length) (nI lg.length) i old lg.length) g') → K none g') : ∀ (cc k : Nat) (g : zG) (pt : Nat → Nat), M = k + cc → zFe zPz g0 g → zGz g + zpT pt + 3 * lg.length * cc ≤ B → zWb X x ad fo eo mo c pt fi fa lg M P sz g → (∀ i, i < k → zWg X x ad (mo i) fo pt fi fa (np i) i (ztk fa (zAn fi fa i (np i) lg lg.length) i old lg.length) lg.length (zkq fa (zAn fi fa i (np i) lg lg.length) i lg.length) (zsq fa (zAn fi fa i (np i) lg lg.length) (nI lg.length) i old lg.length) g) → (∀ i, k ≤ i → i < M → zWg X x ad (mo i) fo pt fi fa (np i) i (fa 24 i) old (fun v => fa 25 (80 * i + v)) (fun v => fa 26 (80 * i + v)) g) → zL X g 68 (ad 9) mc ((List.range M).map (fun i => mo i 0)) cap → zIt g a1 (ad 9) k mc →
    GW X E 3 g 10 [(1, .ref a1)] []
  | 0, k, g, pt, hk, hF, hz, hW, hN, hO, hL, hI => by
    have : M = k := by omega
    subst this
    refine bX1_find_10 (d := d) C hQ g _ ⟨hI.is, sp_hasNext hok hL (by omega) hI (by rw [List.length_map, List.length_range]; omega) (fun _ => ⟨0, rfl, Or.inl rfl, fun _ => hK g pt hF (by omega) hW hN, fun z => absurd rfl z⟩) (fun z => absurd z (by rw [List.length_map, List.length_range]; omega))⟩
  | cc + 1, k, g, pt, hk, hF, hz, hW, hN, hO, hL, hI => by
    have hkM : k < M := by omega
    have hlen : ((List.range M).map (fun i => mo i 0)).length = M := by rw [List.length_map, List.length_range]
    have hzr : zr ((List.range M).map (fun i => mo i 0)) k = mo k 0 := by
      rw [zr_el (by omega), List.getElem_map, List.getElem_range]
    refine bX1_find_10 (d := d) C hQ g _ ⟨hI.is, sp_hasNext hok hL (by omega) hI (by omega) (fun z => absurd z (by omega)) (fun _ => ⟨1, rfl, Or.inr rfl, fun z => absurd z (by decide), fun _ => ⟨hI.is, it_next' hok hL (by omega) hI (by omega) (by omega) (fun g1 a1' a2 a3 a4 => ⟨_, rfl, _, rfl, ?_⟩)⟩⟩)⟩
    rw [hzr]
    have w11 : zWb X x ad fo eo mo c pt fi fa lg M P sz g1 := hW.fe a2 (fun k _ _ _ _ h => h) (fun k _ _ => by omega) (by omega) (by omega)
    have hO1 : ∀ i, k ≤ i → i < M → zWg X x ad (mo i) fo pt fi fa (np i) i (fa 24 i) old (fun v => fa 25 (80 * i + v)) (fun v => fa 26 (80 * i + v)) g1 := fun i h1 h2 => (hO i h1 h2).fe (by omega) a2 (by omega) (by omega) (by omega) (by omega) (by omega) (by omega) (by omega) (by omega) (by omega)
    have hN1 : ∀ i, i < k → zWg X x ad (mo i) fo pt fi fa (np i) i (ztk fa (zAn fi fa i (np i) lg lg.length) i old lg.length) lg.length (zkq fa (zAn fi fa i (np i) lg lg.length) i lg.length) (zsq fa (zAn fi fa i (np i) lg lg.length) (nI lg.length) i old lg.length) g1 := fun i h1 => (hN i h1).fe (by omega) a2 (by omega) (by omega) (by omega) (by omega) (by omega) (by omega) (by omega) (by omega) (by omega)
    obtain ⟨m1, ⟨l0, m2⟩, m3⟩ := hO1 k (Nat.le_refl _) hkM
    have is8 : zIs g1 8 (mo k 0) := ⟨8, _, m1.1, rfl⟩
    obtain ⟨-, -, w3, w4, -, -, -, ⟨f0, w8⟩, -⟩ := id w11
    have hb := zpT_le2 pt (j := 82 + 3 * k) (k := 81 + 3 * k) (by omega) (by omega) (by omega) (by omega) (by omega)
    have hmul : 3 * lg.length * (cc + 1) = 3 * lg.length * cc + 3 * lg.length := Nat.mul_succ _ _
    refine ⟨is8, is8, mt_find hok (by omega) (hFc k hkM) (hj k hkM) hn ho hLi (q0 := pt (82 + 3 * k)) (p0 := pt (81 + 3 * k)) (by omega) hd m1 m2 w4 w3 w8 m3 (fun g2 p' q' l' f' e1 e2 e3 e4 e5 e6 e7 => ⟨rfl, ?_⟩)⟩
    -- behind monitor k
    have hpi : ∀ j, zPi k j → zPz j := fun j hj => by
      unfold zPi zPf zPr at hj
      unfold zPz
      omega
    have hp11 : ∀ j, j = 11 → zPz j := fun j hj => Or.inr (Or.inl hj)
    have npi : ∀ j, j < 16 → j ≠ 8 → ¬ zPi k j := fun j h1 h2 => by unfold zPi zPf zPr; omega
    have nli : ∀ j, 64 ≤ j → j < 80 → ¬ zPi k j := fun j h1 h2 => by unfold zPi zPf zPr; omega
    have nmi : ∀ i, i ≠ k → i < 6 → ¬ zPi k (80 + 3 * i) ∧ ¬ zPi k (81 + 3 * i) ∧ ¬ zPi k (82 + 3 * i) ∧ ¬ zPi k (1052 + i) := fun i hi h6 => by
      unfold zPi zPf zPr
      omega
    have tr2 := zpT_2 pt q' p' (j := 82 + 3 * k) (k := 81 + 3 * k) (by omega) (by omega) (by omega) (by omega) (by omega)
    have pto : ∀ i, i ≠ k → zpu (zpu pt (82 + 3 * k) q') (81 + 3 * k) p' (81 + 3 * i) = pt (81 + 3 * i) ∧ zpu (zpu pt (82 + 3 * k) q') (81 + 3 * k) p' (82 + 3 * i) = pt (82 + 3 * i) := fun i hi => ⟨by rw [zpu_n _ _ (by omega), zpu_n _ _ (by omega)], by rw [zpu_n _ _ (by omega), zpu_n _ _ (by omega)]⟩
    have w2 : zWb X x ad fo eo mo c (zpu (zpu pt (82 + 3 * k) q') (81 + 3 * k) p') fi fa lg M P sz g2 := by
      have base : zWb X x ad fo eo mo c pt fi fa lg M P sz g2 := by
        obtain ⟨b1, b2, b3, b4, ⟨l, l1, l2, l3⟩, b6, b7, b8, ⟨l9, b9⟩, b10⟩ := w11
        refine ⟨e1.1 1 (npi 1 (by omega) (by omega)) _ _ b1, e1.2.1 50 (by unfold zPi zPf zPr; omega) _ _ b2, b3.fe e1 (nli 64 (by omega) (by omega)) (npi 4 (by omega) (by omega)), b4.fe e1 (nli 65 (by omega) (by omega)) (npi 4 (by omega) (by omega)), ⟨l, l1, l2.fe e1 (nli 66 (by omega) (by omega)), fun kd hkd => ?_⟩, b6.fe e1 (nli 67 (by omega) (by omega)), b7.fe e1 (nli 68 (by omega) (by omega)), ⟨f', e7⟩, ⟨l9, b9.fe e1 (nli 69 (by omega) (by omega))⟩, b10.fe e1 (npi 7 (by omega) (by omega))⟩
        exact zTr.fr e1 (npi 5 (by omega) (by omega)) 14 _ _ _ _ (l3 kd hkd) (fun b l r fs k1 _ _ _ _ => ⟨e1.1 2 (npi 2 (by omega) (by omega)) _ _ k1, rfl⟩)
      exact base.gp (fun j h1 h2 => by rw [zpu_n _ _ (by omega), zpu_n _ _ (by omega)])
    refine cx_find_l hok hM6 hn ho hLi hFc hj hd0 hB hd C hQ hK cc (k + 1) g2 (zpu (zpu pt (82 + 3 * k) q') (81 + 3 * k) p') (by omega) ((hF.trans (a2.mono hp11)).trans (e1.mono hpi)) (by omega) w2 (fun i hi => ?_) (fun i hi hiM => ?_) ((hL.fe a2 (by omega)).fe e1 (nli 68 (by omega) (by omega))) (a1'.fe e1 (npi 11 (by omega) (by omega)))
    · by_cases ci : i = k
      · subst ci
        refine ⟨e4, ⟨l', ?_⟩, ?_⟩
        · rw [zpu_n _ _ (by omega), zpu_s]
          exact e6
        · rw [zpu_s]
          exact e5
      · obtain ⟨n0, n1, n2, n3⟩ := nmi i ci (by omega)
        have := (hN1 i (by omega)).fe8 (by omega) e1 e2 (fun z => ci (hd0 i k (by omega) hkM z)) (npi 1 (by omega) (by omega)) (npi 6 (by omega) (by omega)) (npi 7 (by omega) (by omega)) (npi 9 (by omega) (by omega)) n0 n1 n2 n3
        exact this.gp (pto i ci).1 (pto i ci).2
    · have ci : i ≠ k := by omega
      obtain ⟨n0, n1, n2, n3⟩ := nmi i ci (by omega)
      have := (hO1 i (by omega) hiM).fe8 (by omega) e1 e2 (fun z => ci (hd0 i k hiM hkM z)) (npi 1 (by omega) (by omega)) (npi 6 (by omega) (by omega)) (npi 7 (by omega) (by omega)) (npi 9 (by omega) (by omega)) n0 n1 n2 n3
      exact this.gp (pto i ci).1 (pto i ci).2
/-- find: all monitors' answers anew -/
theorem cx_find (hok : zOk X) (hM6 : M ≤ 6) (hn : lg.length ≤ 80) {old : Nat} (ho : old ≤ lg.length) (hLi : zLi fi fa lg) (hFc : ∀ i, i < M → zFc i (np i) fa) (hj : ∀ i, i < M → zMj (mo i) (np i)) (hd0 : ∀ i j, i < M → j < M → mo i 0 = mo j 0 → i = j) (hz : zGz g + zpT pt + 5 + 3 * lg.length * M + 400 ≤ zz X) {D : Nat} (hD : 107 ≤ D) (hW : zWb X x ad fo eo mo c pt fi fa lg M P sz g) (hO : ∀ i, i < M → zWg X x ad (mo i) fo pt fi fa (np i) i (fa 24 i) old (fun v => fa 25 (80 * i + v)) (fun v => fa 26 (80 * i + v)) g)
    (hK : ∀ (g' : zG) (pt' : Nat → Nat), zFe zPz g g' → zGz g' + zpT pt' ≤ zGz g + zpT pt + 5 + 3 * lg.length * M → zWb X x ad fo eo mo c pt' fi fa lg M P sz g' → (∀ i, i < M → zWg X x ad (mo i) fo pt' fi fa (np i) i (ztk fa (zAn fi fa i (np i) lg lg.length) i old lg.length) lg.length (zkq fa (zAn fi fa i (np i) lg lg.length) i lg.length) (zsq fa (zAn fi fa i (np i) lg lg.length) (nI lg.length) i old lg.length) g') → K none g') : zCal X D yX1_find wX1_find [.ref x] g K KX := by
  obtain ⟨d, rfl⟩ : ∃ d, D = d + 1 := ⟨D - 1, by omega⟩
  obtain ⟨w1, -, -, -, -, -, w7, -⟩ := id hW
  obtain ⟨mc, cap, hL, hp⟩ := w7
  have h68 := zpT_le pt (j := 68) (by omega) (by omega)
  refine mX1_find (d := d) hok x (fun E C hQ => ⟨_, _, w1, rfl, hL.is (by omega), it_iterator hok hL (by omega) (by omega) (by omega) (fun q g1 _ a1 a2 a3 => ⟨q, rfl, ?_⟩)⟩)
  refine cx_find_l (d := d) (g0 := g) (B := zGz g + zpT pt + 5 + 3 * lg.length * M) hok hM6 hn ho hLi hFc hj hd0 (by omega) (by omega) C hQ hK M 0 g1 pt (by omega) (a2.mono (fun _ h => h.elim)) (by omega) (hW.fe a2 (fun _ _ _ _ _ _ => id) (fun _ _ _ => id) id id) (fun i hi => absurd hi (Nat.not_lt_zero i)) (fun i _ hi => (hO i hi).fe (by omega) a2 id id id id id id id id id) (hL.fe a2 id) a1
end FAL
