set_option maxRecDepth 100000
theorem zFe.sm {g : zG} {i q n : Nat} (hq : zFr g q) (hq2 : ∀ j : Nat, j < n → zFr g (q + 1 + j)) : zFe (fun _ => False) g (zSm g i q n) := ⟨fun _ _ _ _ e => e, fun t _ a v e => by
  rw [zSm_i]
  by_cases c : t = 52 + i ∧ q < a ∧ a ≤ q + n
  · have := (hq2 (a - q - 1) (by omega)).2.1 t
    rw [show q + 1 + (a - q - 1) = a by omega, e] at this
    cases this
  · rw [if_neg c]
    exact e, fun t _ a v e => by
  rw [zSm_q]
  by_cases c : t = i ∧ a = q
  · rw [c.2, hq.2.2.1 t] at e
    cases e
  · unfold zup
    rw [if_neg c]
    exact e, rfl⟩
/-- rows but one stay -/
def zO9 (b0 : Nat) (g g' : zG) : Prop := ∀ b : Nat, b ≠ b0 → ∀ fs : List Value, zGo g 9 b = some fs → zGo g' 9 b = some fs
section NM1
variable {X : zX} {d : Nat} {g : zG} {K : Option Value → zG → Prop} {KX : String → zG → Prop}
theorem ct_Row (hok : zOk X) {i : Nat} (hi : i < 6) {n : Nat} (hn : n ≤ 24) {rw b1 q1 x : Nat} {l : List Nat} (h0 : zGo g 9 rw = some [.null, .null, .null, .null]) (hL : zLs X g (80 + 3 * i) b1 l q1) (hl : l.length = n) (hz : zGz g + 5 + 82 * n ≤ zz X) {D : Nat} (hD : 8 ≤ D)
    (hK : ∀ (g' : zG) (b2 ra : Nat), zGo g' 9 rw = some [.ref b2, .ref b1, .ref ra, .ref x] → zLs X g' (82 + 3 * i) b2 [] 2000 → zGq g' i ra = some (n, fun j => if j < n then some (ra + 1 + j) else none) → (∀ p, p < n → zGi g' (52 + i) (ra + 1 + p) = some (80, fun _ => 0)) → zFe (fun k => k = 9 ∨ k = 82 + 3 * i) g g' → zO9 rw g g' → zGz g' = zGz g + 5 + 82 * n → K none g') : zCal X D yX9_init wX9_init [.ref rw, .ref x, .ref b1] g K KX := by
  obtain ⟨d, rfl⟩ : ∃ d, D = d + 4 := ⟨D - 4, by omega⟩
  refine mX9_init (d := d + 3) hok rw x b1 ⟨_, h0, by simp, fun g1 e1 => ⟨82 + 3 * i, zkc_0 (by omega), by rw [e1]; show zGz g + 1 + 3 ≤ _; omega, fun b2 hb2 g2 e2 => ?_⟩⟩
  have o1 : zGo g1 9 rw = some [.null, .null, .null, .ref x] := by rw [e1, zSo_o, zup_s]; rfl
  have f1 : zFe (fun k => k = 9 ∨ k = 82 + 3 * i) g g1 := by rw [e1]; exact zFe.so (Or.inl rfl)
  have n1 : zO9 rw g g1 := fun b hb fs h => by rw [e1, zSo_o, zup_a _ _ _ _ hb]; exact h
  have f2 : zFe (fun _ => False) g1 g2 := by rw [e2]; exact zFe.new hb2 _
  have z2 : zGz g2 = zGz g + 4 := by rw [e2, e1]; rfl
  refine sp_linit (d := d) hok (t := 82 + 3 * i) (by omega) (q := b2) (by rw [e2, zSz_o, zSo_o, zup_s]) (fun g3 a1 a2 => ⟨rfl, ?_⟩)
  have f3 := a2.fe (by omega)
  have o3 := f3.1 9 (by omega) _ _ (f2.1 9 id _ _ o1)
  have z3 : zGz g3 = zGz g2 := a2.2.2
  refine ⟨_, o3, by simp, fun g4 e4 => ?_⟩
  have o4 : zGo g4 9 rw = some [.ref b2, .null, .null, .ref x] := by rw [e4, zSo_o, zup_s]; rfl
  refine ⟨_, o4, by simp, fun g5 e5 => ?_⟩
  have o5 : zGo g5 9 rw = some [.ref b2, .ref b1, .null, .ref x] := by rw [e5, zSo_o, zup_s]; rfl
  have f35 : zFe (fun k => k = 9) g3 g5 := by
    rw [e5, e4]
    exact (zFe.so1).trans (zFe.so1)
  have n35 : zO9 rw g3 g5 := fun b hb fs h => by rw [e5, zSo_o, zup_a _ _ _ _ hb, e4, zSo_o, zup_a _ _ _ _ hb]; exact h
  have z5 : zGz g5 = zGz g3 := by rw [e5, e4]; rfl
  have L5 := (((hL.fe f1 (by omega)).fe f2 id).fe f3 (by omega)).fe f35 (by omega)
  refine ⟨L5.is (by omega), ls_size hok L5 (by omega) ⟨_, rfl, i, by omega, by rw [hl]; exact nI_pos (by omega), by rw [hl, nI_clamp (by omega)]; omega, by rw [hl, nI_clamp (by omega)]; omega, fun ra hr hr2 g6 e6 => ?_⟩⟩
  rw [hl, nI_clamp (by omega)] at hr2 e6
  have f6 : zFe (fun _ => False) g5 g6 := by rw [e6]; exact zFe.sm hr hr2
  have o6 := f6.1 9 id _ _ o5
  have z6 : zGz g6 = zGz g5 + 1 + 82 * n := by rw [e6]; rfl
  refine ⟨_, o6, by simp, fun g7 e7 => ?_⟩
  have f7 : zFe (fun k => k = 9) g6 g7 := by rw [e7]; exact zFe.so rfl
  have z7 : zGz g7 = zGz g6 := by rw [e7]; rfl
  have f37 : zFe (fun k => k = 9 ∨ k = 82 + 3 * i) g3 g7 := ((f35.trans (f6.mono (fun _ h => h.elim))).trans f7).mono (fun k hk => Or.inl hk)
  refine hK g7 b2 ra (by rw [e7, zSo_o, zup_s]; rfl) ⟨0, 0, ?_, by unfold zpot; omega⟩ ?_ (fun p hp => ?_) (((f1.trans (f2.mono (fun _ h => h.elim))).trans (f3.mono (fun k hk => Or.inr hk))).trans f37) ?_ (by omega)
  · exact ((a1.fe f35 (by omega)).fe f6 id).fe f7 (by omega)
  · refine f7.2.2.1 i (Or.inl (by omega)) _ _ ?_
    rw [e6, zSm_q, zup_s]
  · refine f7.2.1 (52 + i) (by omega) _ _ ?_
    rw [e6, zSm_i, if_pos ⟨rfl, by omega, by omega⟩]
  · intro b hb fs h
    have h3 := f3.1 9 (by omega) _ _ (f2.1 9 id _ _ (n1 b hb fs h))
    rw [e7, zSo_o, zup_a _ _ _ _ hb]
    exact f6.1 9 id _ _ (n35 b hb fs h3)
/-- a new monitor -/
theorem ct_Monitor (hok : zOk X) {M n : Nat} (hM : M < 6) (hn : n ≤ 24) (hn0 : 0 < n) {fa : Nat → Nat → Int32} (hw : zwf fa 0 n) {fo : Nat → Nat} (hj : ∀ p q, p < n → q < n → fo p = fo q → p = q) {a x : Nat} {x1 x2 : Int32} (hx1 : zbo x1) (hx2 : zbo x2) (h0 : zGo g 8 a = some [.null, .null, .null, .int 0, .int 0, .null, .int 0, .null]) (hF : ∀ q, q < n → ∃ s : Int32, zGo g 7 (fo q) = some (zff X fa 0 fo q s)) (hsz : zsz fa (0 + (n - 1)) = n) (hz : zGz g + 5000 ≤ zz X) {D : Nat} (hD : 40 ≤ D)
    (hK : ∀ (g' : zG) (b1 b2 b3 rw ra q1 : Nat), zGo g' 8 a = some [.ref (fo (n - 1)), .ref b1, .ref rw, .int x1, .int x2, .ref b3, .int 0, .ref x] → zLs X g' (80 + 3 * M) b1 ((List.range n).map fo) q1 → zLs X g' (81 + 3 * M) b3 [] 2000 → zLs X g' (82 + 3 * M) b2 [] 2000 → (∀ q, q < n → zGo g' 7 (fo q) = some (zff X fa 0 fo q (nI q))) → zGo g' 9 rw = some [.ref b2, .ref b1, .ref ra, .ref x] → zGq g' M ra = some (n, fun j => if j < n then some (ra + 1 + j) else none) → (∀ p, p < n → zGi g' (52 + M) (ra + 1 + p) = some (80, fun _ => 0)) → zFe (fun k => k = 7 ∨ k = 8 ∨ k = 9 ∨ k = 80 + 3 * M ∨ k = 81 + 3 * M ∨ k = 82 + 3 * M) g g' → zO7 fo n g g' → zO8 a g g' → (∀ b fs, zGo g 9 b = some fs → zGo g' 9 b = some fs) → zGz g' + q1 ≤ zGz g + 2018 + 82 * n → K none g') : zCal X D yX8_init wX8_init [.ref a, .ref x, .ref (fo (n - 1)), .int x1, .int x2] g K KX := by
  obtain ⟨d, rfl⟩ : ∃ d, D = d + 5 := ⟨D - 5, by omega⟩
  refine mX8_init (d := d + 4) hok a x (fo (n - 1)) x1 x2 ⟨_, h0, by simp, fun g1 e1 => ⟨80 + 3 * M, zkc_0 (by omega), by rw [e1]; show zGz g + 1 + 3 ≤ _; omega, fun b1 hb1 g2 e2 => ?_⟩⟩
  have o1 : zGo g1 8 a = some [.null, .null, .null, .int 0, .int 0, .null, .int 0, .ref x] := by rw [e1, zSo_o, zup_s]; rfl
  have f1 : zFe (fun k => k = 8) g g1 := by rw [e1]; exact zFe.so rfl
  have n1 : zO8 a g g1 := fun b hb fs h => by rw [e1, zSo_o, zup_a _ _ _ _ hb]; exact h
  have f2 : zFe (fun _ => False) g1 g2 := by rw [e2]; exact zFe.new hb1 _
  have z2 : zGz g2 = zGz g + 4 := by rw [e2, e1]; rfl
  refine sp_linit (d := d + 1) hok (t := 80 + 3 * M) (by omega) (q := b1) (by rw [e2, zSz_o, zSo_o, zup_s]) (fun g3 a1 a2 => ⟨rfl, ?_⟩)
  have f3 := a2.fe (by omega)
  have z3 : zGz g3 = zGz g2 := a2.2.2
  have f13 : zFe (fun k => k = 80 + 3 * M) g1 g3 := (f2.mono (fun _ h => h.elim)).trans f3
  refine ⟨_, f13.1 8 (by omega) _ _ o1, by simp, fun g4 e4 => ⟨81 + 3 * M, zkc_0 (by omega), by rw [e4]; show zGz g3 + 1 + 3 ≤ _; omega, fun b3 hb3 g5 e5 => ?_⟩⟩
  have o4 : zGo g4 8 a = some [.null, .ref b1, .null, .int 0, .int 0, .null, .int 0, .ref x] := by rw [e4, zSo_o, zup_s]; rfl
  have f4 : zFe (fun k => k = 8) g3 g4 := by rw [e4]; exact zFe.so rfl
  have n4 : zO8 a g3 g4 := fun b hb fs h => by rw [e4, zSo_o, zup_a _ _ _ _ hb]; exact h
  have f5 : zFe (fun _ => False) g4 g5 := by rw [e5]; exact zFe.new hb3 _
  have z5 : zGz g5 = zGz g3 + 4 := by rw [e5, e4]; rfl
  refine sp_linit (d := d + 1) hok (t := 81 + 3 * M) (by omega) (q := b3) (by rw [e5, zSz_o, zSo_o, zup_s]) (fun g6 c1 c2 => ⟨rfl, ?_⟩)
  have f6 := c2.fe (by omega)
  have z6 : zGz g6 = zGz g5 := c2.2.2
  have f46 : zFe (fun k => k = 81 + 3 * M) g4 g6 := (f5.mono (fun _ h => h.elim)).trans f6
  refine ⟨_, f46.1 8 (by omega) _ _ o4, by simp, fun g7 e7 => ?_⟩
  have o7 : zGo g7 8 a = some [.null, .ref b1, .null, .int 0, .int 0, .ref b3, .int 0, .ref x] := by rw [e7, zSo_o, zup_s]; rfl
  refine ⟨_, o7, by simp, fun g8 e8 => ?_⟩
  have o8 : zGo g8 8 a = some [.ref (fo (n - 1)), .ref b1, .null, .int 0, .int 0, .ref b3, .int 0, .ref x] := by rw [e8, zSo_o, zup_s]; rfl
  refine ⟨_, o8, by simp, hx1, fun g9 e9 => ?_⟩
  have o9 : zGo g9 8 a = some [.ref (fo (n - 1)), .ref b1, .null, .int x1, .int 0, .ref b3, .int 0, .ref x] := by rw [e9, zSo_o, zup_s]; rfl
  refine ⟨_, o9, by simp, hx2, fun g10 e10 => ?_⟩
  have o10 : zGo g10 8 a = some [.ref (fo (n - 1)), .ref b1, .null, .int x1, .int x2, .ref b3, .int 0, .ref x] := by rw [e10, zSo_o, zup_s]; rfl
  have f610 : zFe (fun k => k = 8) g6 g10 := by
    rw [e10, e9, e8, e7]
    exact (((zFe.so1).trans (zFe.so1)).trans (zFe.so1)).trans (zFe.so1)
  have n610 : zO8 a g6 g10 := fun b hb fs h => by
    rw [e10, zSo_o, zup_a _ _ _ _ hb, e9, zSo_o, zup_a _ _ _ _ hb, e8, zSo_o, zup_a _ _ _ _ hb, e7, zSo_o, zup_a _ _ _ _ hb]
    exact h
  have z10 : zGz g10 = zGz g6 := by rw [e10, e9, e8, e7]; rfl
  have f010 : zFe (fun k => k = 8 ∨ k = 80 + 3 * M ∨ k = 81 + 3 * M) g g10 := ((((f1.mono (fun k hk => Or.inl hk)).trans (f13.mono (fun k hk => Or.inr (Or.inl hk)))).trans (f4.mono (fun k hk => Or.inl hk))).trans (f46.mono (fun k hk => Or.inr (Or.inr hk)))).trans (f610.mono (fun k hk => Or.inl hk))
  have n010 : zO8 a g g10 := (((n1.trans (f13.o8 (by omega) a)).trans n4).trans (f46.o8 (by omega) a)).trans n610
  have La : zL X g10 (80 + 3 * M) b1 0 [] 0 := ((a1.fe f4 (by omega)).fe f46 (by omega)).fe f610 (by omega)
  have Lb : zL X g10 (81 + 3 * M) b3 0 [] 0 := c1.fe f610 (by omega)
  have F10 : ∀ q, q < n → ∃ s : Int32, zGo g10 7 (fo q) = some (zff X fa 0 fo q s) := fun q hq => by
    obtain ⟨s, hs⟩ := hF q hq
    exact ⟨s, f010.1 7 (by omega) _ _ hs⟩
  have is7 : zIs g10 7 (fo (n - 1)) := by
    obtain ⟨s, hs⟩ := F10 (n - 1) (by omega)
    exact ⟨7, _, hs, rfl⟩
  refine ⟨_, _, o10, rfl, is7, cf_collect hok (t := 80 + 3 * M) (al := b1) (by omega) hn hw hj n (n - 1) (by omega) (by omega) _ g10 2000 _ _ (by omega) (by omega) ⟨?_, fun q hq => ?_⟩ (fun g11 p11 k1 k2 k3 k4 => ⟨rfl, by omega, fun rw hrw g12 e12 => ?_⟩)⟩
  · rw [hsz, show n - 1 + 1 - n = 0 by omega]
    exact ⟨0, 0, La, by unfold zpot; omega⟩
  · obtain ⟨s, hs⟩ := F10 q hq
    refine ⟨s, hs, fun z => ?_⟩
    rw [hsz] at z
    omega
  have f12 : zFe (fun _ => False) g11 g12 := by rw [e12]; exact zFe.new hrw _
  have z12 : zGz g12 = zGz g11 + 5 := by rw [e12]; rfl
  rw [show n - 1 + 1 = n by omega] at k1
  have o12 := f12.1 8 id _ _ (k2.1 8 (by omega) _ _ o10)
  have L12 := k1.1.fe f12 id
  refine ⟨_, _, o12, rfl, ct_Row hok hM hn (by rw [e12, zSz_o, zSo_o, zup_s]) L12 (by rw [List.length_map, List.length_range]) (by omega) (by omega) (fun g13 b2 ra r1 r2 r3 r4 r5 r6 r7 => ⟨rfl, _, r5.1 8 (by omega) _ _ o12, by simp, fun g14 e14 => ?_⟩)⟩
  have f14 : zFe (fun k => k = 8) g13 g14 := by rw [e14]; exact zFe.so rfl
  have z14 : zGz g14 = zGz g13 := by rw [e14]; rfl
  have f1012 : zFe (fun k => k = 7 ∨ k = 80 + 3 * M) g10 g12 := k2.trans (f12.mono (fun _ h => h.elim))
  have s14 : ∀ q, q < n → zGo g14 7 (fo q) = some (zff X fa 0 fo q (nI q)) := fun q hq => by
    obtain ⟨s, hs, e⟩ := k1.2 q hq
    rw [e hq] at hs
    exact f14.1 7 (by omega) _ _ (r5.1 7 (by omega) _ _ (f12.1 7 id _ _ hs))
  refine hK g14 b1 b2 b3 rw ra p11 (by rw [e14, zSo_o, zup_s]; rfl) ((L12.fe r5 (by omega)).fe f14 (by omega)) ⟨0, 0, ((Lb.fe f1012 (by omega)).fe r5 (by omega)).fe f14 (by omega), by unfold zpot; omega⟩ (r2.fe f14 (by omega)) s14 (f14.1 9 (by omega) _ _ r1) (f14.2.2.1 M (Or.inl (by omega)) _ _ r3) (fun p hp => f14.2.1 (52 + M) (by omega) _ _ (r4 p hp)) ?_ ?_ ?_ ?_ (by omega)
  · exact (((f010.mono (fun k hk => by omega)).trans (f1012.mono (fun k hk => by omega))).trans (r5.mono (fun k hk => by omega))).trans (f14.mono (fun k hk => by omega))
  · intro b hb fs h
    have h10 := f010.1 7 (by omega) _ _ h
    exact f14.1 7 (by omega) _ _ (r5.1 7 (by omega) _ _ (f12.1 7 id _ _ (k3 b hb fs h10)))
  · intro b hb fs h
    have h10 := n010 b hb fs h
    rw [e14, zSo_o, zup_a _ _ _ _ hb]
    exact r5.1 8 (by omega) _ _ (f1012.1 8 (by omega) _ _ h10)
  · intro b fs h
    have h11 := k2.1 9 (by omega) _ _ (f010.1 9 (by omega) _ _ h)
    have hne : b ≠ rw := fun z => by
      rw [z, hrw.1 9] at h11
      cases h11
    exact f14.1 9 (by omega) _ _ (r6 b hne fs (f12.1 9 id _ _ h11))
end NM1
