set_option maxRecDepth 100000
section AN2
variable {X : zX} {d : Nat} {x : Nat} {ad fo eo : Nat → Nat} {mo : Nat → Nat → Nat} {c : Nat → Nat × Nat × Nat} {pt pt' : Nat → Nat} {fi fi' : Nat → Int32} {fa fa' : Nat → Nat → Int32} {lg : List Nat} {M P : Nat} {np sz : Nat → Nat} {B : Nat} {g g' : zG} {Q : Nat → Prop} {K : Option Value → zG → Prop} {KX : String → zG → Prop}
theorem cs_answers_l (hok : zOk X) {i n : Nat} {al : Nat} {a : Int32} {l : List Nat} (hl : l.length = n) (hn : n ≤ 80) {mc : Int32} {cap : Nat} {q : Nat} {E : zM} (C : zC X (d + 3) E RX1 cX1_answers 7 (some .int) "answers") (hQ : zQ X E K KX) {g0 : zG} (hi : i < 6)
    (hK : ∀ g2 : zG, zFe (fun k => k = 11) g0 g2 → zGz g2 = zGz g0 → K (some (.int (zas fa i a n))) g2) : ∀ (cc k : Nat) (g : zG), n = k + cc → zFe (fun k => k = 11) g0 g → zGz g = zGz g0 → zL X g (81 + 3 * i) al mc l cap → (∀ v, v < n → zPw X g (zr l v) (fa 25 (80 * i + v)) (fa 26 (80 * i + v))) → zIt g q al k mc →
    GW X E 7 g 29 [(2, .int a), (4, .int (zas fa i a k)), (5, .ref q)] []
  | 0, k, g, hk, hF, hz, hL, hp, hI => by
    have : k = n := by omega
    subst this
    refine bX1_answers_29 (d := d + 2) C hQ g _ _ _ ⟨hI.is, sp_hasNext hok hL (by omega) hI (by omega) (fun _ => ⟨0, rfl, Or.inl rfl, fun _ => hK g hF hz, fun z => absurd rfl z⟩) (fun z => absurd z (by omega))⟩
  | cc + 1, k, g, hk, hF, hz, hL, hp, hI => by
    refine bX1_answers_29 (d := d + 2) C hQ g _ _ _ ⟨hI.is, sp_hasNext hok hL (by omega) hI (by omega) (fun z => absurd z (by omega)) (fun _ => ⟨1, rfl, Or.inr rfl, fun z => absurd z (by decide), fun _ => ⟨hI.is, it_next' hok hL (by omega) hI (by omega) (by omega) (fun g1 a1 a2 a3 a4 => ?_)⟩⟩)⟩
    obtain ⟨j1, j2, p1, p2, p3, p4, p5⟩ := (hp k (by omega)).fe a2 (by omega)
    have on : ∀ w, w = zas fa i a (k + 1) → GW X E 7 g1 29 [(2, .int a), (4, .int w), (5, .ref q)] [] := fun w hw => by
      rw [hw]
      exact cs_answers_l hok hl hn C hQ hi hK cc (k + 1) g1 (by omega) (hF.trans a2) (a4.trans hz) (hL.fe a2 (by omega)) (fun v hv => (hp v hv).fe a2 (by omega)) a1
    refine ⟨_, rfl, _, rfl, ⟨6, _, p5, rfl⟩, _, _, p5, rfl, ⟨j1 + 128, by omega, rfl⟩, j1 + 128, by omega, rfl, fun v9 e9 => ?_⟩
    rw [vb_j, ← p3] at e9
    subst e9
    have e : zas fa i a (k + 1) = zas fa i a k + (if fa 25 (80 * i + k) = a then 1 else 0) := rfl
    refine ⟨fun c1 => on _ ?_, fun c1 => on _ ?_⟩
    · rw [e, if_neg c1]
    · rw [e, if_pos c1]
theorem zRR.it (hM6 : M ≤ 6) (hW : zWd X x ad fo eo mo c pt fi fa lg M P np sz g) (hJ : zWj fo mo M P np sz) (e : zFe (fun k => k = 11) g g') (hz : zGz g' + zpT pt ≤ B) : zRR X x fi fa lg M P np sz B g' :=
  ⟨ad, fo, eo, mo, c, pt, ⟨hW.1.fe e (fun k _ _ _ _ h => h) (fun k _ _ => by omega) (by omega) (by omega), fun i hi => (hW.2 i hi).fe (by omega) e (fun k _ _ h => h) (by omega) (by omega) (by omega) (by omega)⟩, hJ, hz⟩
theorem cs_answers (hok : zOk X) (hV : zPv fi fa lg M P np sz) (hR : zRR X x fi fa lg M P np sz B g) (hB : B + 3000 ≤ zz X) {v a : Int32} {D : Nat} (hD : 120 ≤ D)
    (h1 : ∀ i : Nat, i < M → v = nI i → ¬ zIn a 0 2 = 0 → ∀ g' : zG, zFe zPc g g' → zRR X x fi fa lg M P np sz (B + 2000) g' → K (some (.int (zas fa i a lg.length))) g') (hx : ∀ (cd : Int32) (s : String), zth (zIn v 0 (nI M - 1)) (zIn a 0 2) 1 = cd → (cd = 1 ∧ s = RJ9) ∨ (cd = 2 ∧ s = RJ12) → KX s (zSz g (zGz g + 7))) : zCal X D yX1_answers wX1_answers [.ref x, .int v, .int a] g K KX := by
  obtain ⟨d, rfl⟩ : ∃ d, D = d + 8 := ⟨D - 8, by omega⟩
  obtain ⟨ad, fo, eo, mo, c, pt, hW, hJ, hz⟩ := hR
  have hM6 := hV.2.2.1.1
  have h80 := hV.1.2.1
  refine mX1_answers (d := d + 7) hok x v a (fun E C hQ => ⟨⟨1, _, hW.1.1, rfl⟩, cx_monitor hok hV hW (by omega) (by omega) (fun i hi e hm => ⟨_, rfl, cx_isIn hok ⟨_, rfl, zIn_bo _ _ _, sp_check (d := d + 1) hok (fun n2 => ⟨rfl, ?_⟩) (fun z => ⟨by omega, hx 2 RJ12 ?_ (Or.inr ⟨rfl, rfl⟩)⟩)⟩⟩) (fun z => hx 1 RJ9 (if_pos z) (Or.inl ⟨rfl, rfl⟩))⟩)
  · obtain ⟨m1, m2, l, l1, l2, l3⟩ := hm
    obtain ⟨mc, cap, hL, -⟩ := l2
    refine ⟨_, _, m1.1, rfl, hL.is (by omega), it_iterator hok hL (by omega) (by omega) (by omega) (fun q g1 _ a1 a2 a3 => ⟨q, rfl, ?_⟩)⟩
    refine cs_answers_l (d := d + 5) (fa := fa) (i := i) (g0 := g1) (l := l) hok l1 h80 C hQ (by omega) (fun g2 b1 b2 => ?_) lg.length 0 g1 (by omega) (zFe.rf _ _) rfl (hL.fe a2 id) (fun v hv => (l3 v hv).fe a2 id) a1
    have e2 : zFe (fun k => k = 11) g g2 := (a2.mono (fun _ h => h.elim)).trans b1
    exact h1 i hi e n2 g2 (e2.mono (fun k hk => by unfold zPc; omega)) (zRR.it hM6 hW hJ e2 (by omega))
  · unfold zth
    subst e
    have n1 : ¬ zIn (nI i) 0 (nI M - 1) = 0 := by
      unfold zIn
      obtain ⟨m, hm'⟩ : ∃ m, M = m + 1 := ⟨M - 1, by omega⟩
      rw [hm', nI_pred, if_neg (nI_pos (by omega)), if_neg (nI_nlt (by omega) (by omega))]
      decide
    rw [if_neg n1, if_pos z]
end AN2
