set_option maxRecDepth 100000
/-- the parts of the part at p, by how many there are -/
theorem zfp_c {fa : Nat → Nat → Int32} {base n : Nat} (hw : zwf fa base n) {p : Nat} (hp : p < n) (fo : Nat → Nat) :
    (zfp1 fa base fo p = none ∧ zfp2 fa base fo p = none ∧ zsz fa (base + p) = 1 ∧ zay (fa 16 (base + p)).toNatClampNeg = 0) ∨
    (zfp1 fa base fo p = some (fo (p - 1)) ∧ zfp2 fa base fo p = none ∧ 1 ≤ p ∧ zsz fa (base + p) = 1 + zsz fa (base + (p - 1)) ∧ zsz fa (base + (p - 1)) ≤ p ∧ zay (fa 16 (base + p)).toNatClampNeg = 1) ∨
    (zfp1 fa base fo p = some (fo (zf1 fa base p)) ∧ zfp2 fa base fo p = some (fo (p - 1)) ∧ 1 ≤ p ∧ zf1 fa base p < p ∧ zf1 fa base p = p - 1 - zsz fa (base + (p - 1)) ∧ zsz fa (base + (p - 1)) ≤ p - 1 ∧ zsz fa (base + p) = 1 + zsz fa (base + (p - 1)) + zsz fa (base + zf1 fa base p) ∧ zsz fa (base + p) ≤ p + 1 ∧ zay (fa 16 (base + p)).toNatClampNeg = 2) := by
  obtain ⟨w, w1, w2, w3, w4, w5, w6, w7⟩ := hw p hp
  have e : (fa 16 (base + p)).toNatClampNeg = w := by rw [w2, nI_clamp (by omega)]
  have hz : zf1 fa base p = p - 1 - zsz fa (base + (p - 1)) := rfl
  have h3 : zay w = 0 ∨ zay w = 1 ∨ zay w = 2 := by
    unfold zay
    split
    · exact Or.inl rfl
    · split
      · exact Or.inr (Or.inr rfl)
      · exact Or.inr (Or.inl rfl)
  rcases h3 with h | h | h
  · refine Or.inl ⟨?_, ?_, w5 h, by rw [e]; exact h⟩
    · unfold zfp1
      rw [e, if_pos h]
    · unfold zfp2
      rw [e, if_neg (by rw [h]; decide)]
  · obtain ⟨y1, y2⟩ := w6 h
    refine Or.inr (Or.inl ⟨?_, ?_, y1, y2, by omega, by rw [e]; exact h⟩)
    · unfold zfp1
      rw [e, if_neg (by rw [h]; decide), if_pos h]
    · unfold zfp2
      rw [e, if_neg (by rw [h]; decide)]
  · obtain ⟨y1, y2, y3⟩ := w7 h
    have hz' : p - 1 - zsz fa (base + (p - 1)) = zf1 fa base p := rfl
    rw [hz'] at y3
    refine Or.inr (Or.inr ⟨?_, ?_, y1, by omega, rfl, y2, y3, w4, by rw [e]; exact h⟩)
    · unfold zfp1
      rw [e, if_neg (by rw [h]; decide), if_neg (by rw [h]; decide)]
    · unfold zfp2
      rw [e, if_pos h]
/-- a formula's parts, the first m of them collected -/
def zCo (X : zX) (t al : Nat) (fa : Nat → Nat → Int32) (base n : Nat) (fo : Nat → Nat) (m pt : Nat) (g : zG) : Prop :=
  zLs X g t al ((List.range m).map fo) pt ∧ ∀ q : Nat, q < n → ∃ s : Int32, zGo g 7 (fo q) = some (zff X fa base fo q s) ∧ (q < m → s = nI q)
/-- other formulas stay as they are -/
def zO7 (fo : Nat → Nat) (n : Nat) (g g' : zG) : Prop := ∀ b : Nat, (∀ q : Nat, q < n → fo q ≠ b) → ∀ fs : List Value, zGo g 7 b = some fs → zGo g' 7 b = some fs
theorem zO7.trans {fo : Nat → Nat} {n : Nat} {g g' g'' : zG} (h : zO7 fo n g g') (h' : zO7 fo n g' g'') : zO7 fo n g g'' := fun b hb fs e => h' b hb fs (h b hb fs e)
/-- the collecting of the part at p -/
def zCoS (X : zX) (t al : Nat) (fa : Nat → Nat → Int32) (base n : Nat) (fo : Nat → Nat) (p : Nat) : Prop :=
  ∀ (D : Nat) (g : zG) (pt : Nat) (K : Option Value → zG → Prop) (KX : String → zG → Prop), p + 8 ≤ D → zGz g + pt + 400 ≤ zz X → zCo X t al fa base n fo (p + 1 - zsz fa (base + p)) pt g → (∀ (g' : zG) (pt' : Nat), zCo X t al fa base n fo (p + 1) pt' g' → zFe (fun k => k = 7 ∨ k = t) g g' → zO7 fo n g g' → zGz g' + pt' ≤ zGz g + pt → K none g') → zCal X D yX7_collect wX7_collect [.ref (fo p), .ref al] g K KX
section COL
variable {X : zX} {d : Nat} {g : zG} {K : Option Value → zG → Prop} {KX : String → zG → Prop} {t al base n : Nat} {fo : Nat → Nat} {fa : Nat → Nat → Int32}
theorem cf_collect_e (hok : zOk X) (ht : 64 ≤ t) (hn : n ≤ 24) (hj : ∀ p q, p < n → q < n → fo p = fo q → p = q) {p pt : Nat} (hp : p < n) {E : zM} (C : zC X (d + 7) E RX7 cX7_collect 2 none "collect") (hQ : zQ X E K KX) (hz : zGz g + pt + 400 ≤ zz X) (hC : zCo X t al fa base n fo p pt g)
    (hK : ∀ (g' : zG) (pt' : Nat), zCo X t al fa base n fo (p + 1) pt' g' → zFe (fun k => k = 7 ∨ k = t) g g' → zO7 fo n g g' → zGz g' + pt' ≤ zGz g + pt → K none g') : GW X E 2 g 30 [(0, .ref (fo p)), (1, .ref al)] [] := by
  obtain ⟨hL, hF⟩ := hC
  obtain ⟨s, hs, -⟩ := hF p hp
  refine bX7_collect_30 (d := d + 6) C hQ g _ _ ⟨hL.is ht, ls_size hok hL ht ⟨_, rfl, 7, _, rfl, hs, by simp [zff], fun g1 e1 => ?_⟩⟩
  rw [List.length_map, List.length_range] at e1
  have f1 : zFe (fun k => k = 7) g g1 := by
    subst e1
    exact zFe.so rfl
  have hL1 := hL.fe f1 (by omega)
  have o1 : zO7 fo n g g1 := fun b hb fs hq => by
    rw [e1, zSo_o, zup_a _ _ _ _ (fun z => hb p hp z.symm)]
    exact hq
  have F1 : ∀ q : Nat, q < n → ∃ s : Int32, zGo g1 7 (fo q) = some (zff X fa base fo q s) ∧ (q < p + 1 → s = nI q) := fun q hq => by
    by_cases c : q = p
    · subst c
      exact ⟨nI q, by rw [e1, zSo_o, zup_s]; rfl, fun _ => rfl⟩
    · obtain ⟨s', h1, h2⟩ := hF q hq
      exact ⟨s', by rw [e1, zSo_o, zup_a _ _ _ _ (fun z => c (hj q p hq hp z))]; exact h1, fun z => h2 (by omega)⟩
  have ob : ∀ q, q < n → zob g1 (fo q) := fun q hq => by
    obtain ⟨s', h1, -⟩ := F1 q hq
    exact ⟨7, by omega, 7, _, h1, rfl⟩
  have z1 : zGz g1 = zGz g := by rw [e1]; rfl
  refine ⟨hL1.is ht, ls_add (d := d) hok hL1 ht (ob p hp) (fun y hy => ?_) (by rw [List.length_map, List.length_range]; omega) (by omega) (fun g2 p2 b1 b2 b3 => ⟨_, rfl, Or.inr rfl, ?_⟩)⟩
  · obtain ⟨q, hq, rfl⟩ := List.mem_map.mp hy
    exact ob q (by have := List.mem_range.mp hq; omega)
  · have f2 := b2.fe ht
    refine hK g2 p2 ⟨by rw [List.range_succ, List.map_append]; exact b1, fun q hq => ?_⟩ ((f1.mono (fun k hk => Or.inl hk)).trans (f2.mono (fun k hk => Or.inr hk))) (o1.trans (fun b _ fs hq => f2.1 7 (by omega) _ _ hq)) (by omega)
    obtain ⟨s', h1, h2⟩ := F1 q hq
    exact ⟨s', f2.1 7 (by omega) _ _ h1, h2⟩
theorem cf_collect (hok : zOk X) (ht : 64 ≤ t) (hn : n ≤ 24) (hw : zwf fa base n) (hj : ∀ p q, p < n → q < n → fo p = fo q → p = q) : ∀ (m p : Nat), p < m → p < n → zCoS X t al fa base n fo p
  | 0, p, hm, hp => absurd hm (Nat.not_lt_zero p)
  | m + 1, p, hm, hp => by
    intro D g pt K KX hD hz hC hK
    obtain ⟨d, rfl⟩ : ∃ d, D = d + 7 := ⟨D - 7, by omega⟩
    obtain ⟨s, hs, -⟩ := hC.2 p hp
    have rf7 : ∀ g : zG, zO7 fo n g g := fun g b _ fs h => h
    refine mX7_collect (d := d + 6) hok _ _ (fun E C hQ => ?_)
    rcases zfp_c hw hp fo with ⟨h1, h2, h3, h4⟩ | ⟨h1, h2, h3, h4, h5, h6⟩ | ⟨h1, h2, h3, h4, h5, h6, h7, h8, h9⟩
    · refine ⟨7, _, none, rfl, hs, by unfold zff; rw [h1]; rfl, fun _ => bX7_collect_15 (d := d + 6) C hQ g _ _ ⟨7, _, none, rfl, hs, by unfold zff; rw [h2]; rfl, fun _ => ?_, fun a z => by cases z⟩, fun a z => by cases z⟩
      rw [h3, show p + 1 - 1 = p by omega] at hC
      exact cf_collect_e hok ht hn hj hp C hQ hz hC hK
    · refine ⟨7, _, some (fo (p - 1)), rfl, hs, by unfold zff; rw [h1]; rfl, fun z => (by cases z), fun a z => ⟨7, _, some (fo (p - 1)), rfl, hs, by unfold zff; rw [h1]; rfl, _, rfl, ⟨7, _, (hC.2 (p - 1) (by omega)).choose_spec.1, rfl⟩, ?_⟩⟩
      refine cf_collect hok ht hn hw hj m (p - 1) (by omega) (by omega) _ g pt _ _ (by omega) hz (by rw [show p - 1 + 1 - zsz fa (base + (p - 1)) = p + 1 - zsz fa (base + p) by omega]; exact hC) (fun g1 p1 a1 a2 a3 a4 => ⟨rfl, ?_⟩)
      rw [show p - 1 + 1 = p by omega] at a1
      obtain ⟨s1, hs1, -⟩ := a1.2 p hp
      refine bX7_collect_15 (d := d + 6) C hQ g1 _ _ ⟨7, _, none, rfl, hs1, by unfold zff; rw [h2]; rfl, fun _ => ?_, fun a z => by cases z⟩
      exact cf_collect_e hok ht hn hj hp C hQ (by omega) a1 (fun g2 p2 b1 b2 b3 b4 => hK g2 p2 b1 (a2.trans b2) (a3.trans b3) (by omega))
    · refine ⟨7, _, some (fo (zf1 fa base p)), rfl, hs, by unfold zff; rw [h1]; rfl, fun z => (by cases z), fun a z => ⟨7, _, some (fo (zf1 fa base p)), rfl, hs, by unfold zff; rw [h1]; rfl, _, rfl, ⟨7, _, (hC.2 (zf1 fa base p) (by omega)).choose_spec.1, rfl⟩, ?_⟩⟩
      refine cf_collect hok ht hn hw hj m (zf1 fa base p) (by omega) (by omega) _ g pt _ _ (by omega) hz (by rw [show zf1 fa base p + 1 - zsz fa (base + zf1 fa base p) = p + 1 - zsz fa (base + p) by omega]; exact hC) (fun g1 p1 a1 a2 a3 a4 => ⟨rfl, ?_⟩)
      obtain ⟨s1, hs1, -⟩ := a1.2 p hp
      refine bX7_collect_15 (d := d + 6) C hQ g1 _ _ ⟨7, _, some (fo (p - 1)), rfl, hs1, by unfold zff; rw [h2]; rfl, fun z => (by cases z), fun a z => ⟨7, _, some (fo (p - 1)), rfl, hs1, by unfold zff; rw [h2]; rfl, _, rfl, ⟨7, _, (a1.2 (p - 1) (by omega)).choose_spec.1, rfl⟩, ?_⟩⟩
      refine cf_collect hok ht hn hw hj m (p - 1) (by omega) (by omega) _ g1 p1 _ _ (by omega) (by omega) (by rw [show p - 1 + 1 - zsz fa (base + (p - 1)) = zf1 fa base p + 1 by omega]; exact a1) (fun g2 p2 b1 b2 b3 b4 => ⟨rfl, ?_⟩)
      rw [show p - 1 + 1 = p by omega] at b1
      exact cf_collect_e hok ht hn hj hp C hQ (by omega) b1 (fun g3 p3 c1 c2 c3 c4 => hK g3 p3 c1 ((a2.trans b2).trans c2) ((a3.trans b3).trans c3) (by omega))
end COL
