set_option maxRecDepth 100000
/-! the class's constructor: the start -/
/-- the model's numbers at the start -/
def z0i : Nat → Int32 := fun j => if j = 1 then 50 else 0
def z0a : Nat → Nat → Int32 := fun _ _ => 0
theorem z0_pv (np sz : Nat → Nat) : zPv z0i z0a [] 0 0 np sz := by
  refine ⟨⟨rfl, Nat.zero_le _, List.nodup_nil, fun v hv => (by cases hv), fun k hk => absurd hk (Nat.not_lt_zero k)⟩, fun k hk => absurd hk (Nat.not_lt_zero k), ⟨Nat.zero_le _, rfl, fun i hi => absurd hi (Nat.not_lt_zero i)⟩, ⟨rfl, Nat.zero_le _, fun j hj => absurd hj (Nat.not_lt_zero j), rfl, fun p hp => absurd hp (Nat.not_lt_zero p), fun j hj => absurd hj (Nat.not_lt_zero j)⟩, ⟨Nat.zero_le _, List.nodup_nil, ?_, ?_, ⟨0, Nat.zero_le _, rfl, fun v hv => (by cases hv)⟩, fun v hv => (by cases hv), fun v hv => (by cases hv)⟩, fun v hv => absurd hv (Nat.not_lt_zero v), fun v hv => absurd hv (Nat.not_lt_zero v), fun i hi => absurd hi (Nat.not_lt_zero i), fun p hp => absurd hp (Nat.not_lt_zero p), fun p hp => absurd hp (Nat.not_lt_zero p), fun k hk => ⟨show (-1000 : Int) ≤ (0 : Int32).toInt by decide, show (0 : Int32).toInt ≤ 1000 by decide⟩, ⟨by decide, by decide⟩, fun i v hi => absurd hi (Nat.not_lt_zero i)⟩
  · exact zri_pw.mpr List.Pairwise.nil
  · intro v hv
    cases hv
theorem z0_no : zno z0a [] := fun j k _ hk => absurd hk (Nat.not_lt_zero k)
section BRN
variable {X : zX} {d : Nat} {x : Nat} {g : zG} {K : Option Value → zG → Prop} {KX : String → zG → Prop}
/-- a list, new, put into a field -/
theorem cn_list (hok : zOk X) {t j : Nat} (ht : 64 ≤ t) (hz : zGz g + 4 ≤ zz X) {fs : List Value} (hx : zGo g 1 x = some fs) (hj : j < fs.length) {N : Nat → zG → Prop}
    (hK : ∀ (a : Nat) (g' : zG), zLs X g' t a [] 2000 → zGo g' 1 x = some (fs.set j (.ref a)) → zFe (fun k => k = t ∨ k = 1) g g' → zGz g' = zGz g + 4 → N a g') :
    ∃ k_9 : Nat, zkc k_9 = 0 ∧ zGz g + 1 + 3 ≤ zz X ∧ ∀ a_7 : Nat, zFr g a_7 → ∀ g_8 : zG, g_8 = zSz (zSo g k_9 a_7 [.int 0, .null, .int 0]) (zGz g + 1 + 3) → zCal X (d + 3) yJ2_init wJ2_init [.ref a_7] g_8 (fun r g_10 => r = none ∧ ∃ (fs_11 : List Value), zGo g_10 1 x = some fs_11 ∧ j < fs_11.length ∧ ∀ g_12 : zG, g_12 = zSo g_10 1 x (fs_11.set j (.ref a_7)) → N a_7 g_12) KX := by
  refine ⟨t, zkc_0 ht, by omega, fun a hfr g1 e1 => ?_⟩
  have f1 : zFe (fun _ => False) g g1 := by rw [e1]; exact zFe.new hfr _
  have z1 : zGz g1 = zGz g + 4 := by rw [e1]; rfl
  refine sp_linit (d := d) hok (t := t) ht (q := a) (by rw [e1, zSz_o, zSo_o, zup_s]) (fun g2 a1 a2 => ⟨rfl, ?_⟩)
  have f2 := a2.fe ht
  have z2 : zGz g2 = zGz g1 := a2.2.2
  have hx2 := f2.1 1 (by omega) _ _ (f1.1 1 (fun h => h) _ _ hx)
  refine ⟨_, hx2, hj, fun g3 e3 => ?_⟩
  have f3 : zFe (fun k => k = 1) g2 g3 := by rw [e3]; exact zFe.so1
  refine hK a g3 (zLs.fe ⟨0, 0, a1, by unfold zpot; omega⟩ f3 (by omega)) (by rw [e3, zSo_o, zup_s]) (((f1.mono (fun _ h => h.elim)).trans (f2.mono (fun k h => Or.inl h))).trans (f3.mono (fun k h => Or.inr h))) ?_
  rw [e3]
  show zGz g2 = _
  omega
theorem cx_born_l (hok : zOk X) {ad0 : Nat} {E : zM} (C : zC X (d + 7) E RX1 cX1_init 2 none "<init>") (hQ : zQ X E K KX) {g0 : zG} {fs : List Value} {t4 : Nat} (hfs : fs[4]? = some (.ref t4)) (hB : zGz g0 + 8 * 6 + 2400 ≤ zz X) (hx0 : zGo g0 1 x = some fs)
    (hK : ∀ (g' : zG) (l : List Nat) (p : Nat), zFe (fun k => k = 2 ∨ k = 66) g0 g' → l.length = 8 → l.Nodup → zLs X g' 66 t4 l p → (∀ q ∈ l, zGo g' 2 q = some [.int 0, .int 11000, .null, .null, .null]) → zGz g' + p ≤ zGz g0 + 2000 + 8 * 6 → K none g') : ∀ (c k : Nat) (g : zG) (l : List Nat) (p : Nat), k + c = 8 → l.length = k → l.Nodup → zFe (fun k => k = 2 ∨ k = 66) g0 g → zLs X g 66 t4 l p → (∀ q ∈ l, zGo g 2 q = some [.int 0, .int 11000, .null, .null, .null]) → zGz g + p ≤ zGz g0 + 2000 + k * 6 → GW X E 2 g 98 [(0, .ref x), (1, .int (nI k))] []
  | 0, k, g, l, p, hk, h1, h2, h3, h4, h5, h6 => by
    have : k = 8 := by omega
    subst this
    exact bX1_init_98 (d := d + 6) C hQ g _ _ ⟨fun _ => hK g l p h3 h1 h2 h4 h5 (by omega), fun z => absurd (show (8 : Int32) ≤ nI 8 by decide) z⟩
  | c + 1, k, g, l, p, hk, h1, h2, h3, h4, h5, h6 => by
    refine bX1_init_98 (d := d + 6) C hQ g _ _ ⟨fun z => absurd z (nI_ge (a := k) (b := 8) (by omega) (by omega)), fun _ => ⟨fs, t4, h3.1 1 (by omega) _ _ hx0, hfs, by omega, fun a hfr g1 e1 => ?_⟩⟩
    have f1 : zFe (fun _ => False) g g1 := by rw [e1]; exact zFe.new hfr _
    have z1 : zGz g1 = zGz g + 6 := by rw [e1]; rfl
    refine cp_Tree (d := d + 5) hok (by rw [e1, zSz_o, zSo_o, zup_s]) ?_
    have f2 : zFe (fun k => k = 2) g1 (zSo g1 2 a [.int 0, .int 11000, .null, .null, .null]) := zFe.so1
    have f02 : zFe (fun k => k = 2) g (zSo g1 2 a [.int 0, .int 11000, .null, .null, .null]) := (f1.mono (fun _ h => h.elim)).trans f2
    have hna : a ∉ l := fun hm => by
      have := h5 a hm
      rw [hfr.1 2] at this
      cases this
    have old : ∀ q ∈ l, zGo (zSo g1 2 a [.int 0, .int 11000, .null, .null, .null]) 2 q = some [.int 0, .int 11000, .null, .null, .null] := fun q hq => by
      rw [zSo_o, zup_a _ _ _ _ (fun z => hna (by rw [← z]; exact hq))]
      exact f1.1 2 (fun h => h) _ _ (h5 q hq)
    have new : zGo (zSo g1 2 a [.int 0, .int 11000, .null, .null, .null]) 2 a = some [.int 0, .int 11000, .null, .null, .null] := by rw [zSo_o, zup_s]
    have hL2 := h4.fe f02 (by omega)
    refine ⟨rfl, hL2.is (by omega), ls_add (d := d) hok hL2 (by omega) ⟨2, by omega, 2, _, new, rfl⟩ (fun y hy => ⟨2, by omega, 2, _, old y hy, rfl⟩) (by omega) (by show zGz g1 + p + 400 ≤ _; omega) (fun g3 p3 b1 b2 b3 => ⟨_, rfl, Or.inr rfl, ?_⟩)⟩
    have f3 := b2.fe (by omega)
    have b3 : zGz g3 + p3 ≤ zGz g1 + p := b3
    rw [← nI_succ]
    refine cx_born_l hok (ad0 := ad0) C hQ hfs hB hx0 hK c (k + 1) g3 (l ++ [a]) p3 (by omega) (by rw [List.length_append, List.length_singleton]; omega) (List.nodup_append.mpr ⟨h2, by simp, fun u hu v hv e => hna (by rw [List.mem_singleton] at hv; rw [← hv, ← e]; exact hu)⟩) (h3.trans ((f02.mono (fun k h => Or.inl h)).trans (f3.mono (fun k h => Or.inr h)))) b1 (fun q hq => ?_) (by omega)
    rcases List.mem_append.mp hq with z | z
    · exact f3.1 2 (by omega) _ _ (old q z)
    · rw [List.mem_singleton.mp z]
      exact f3.1 2 (by omega) _ _ new
theorem zpT_0 (pt : Nat → Nat) (h : ∀ k, 70 ≤ k → pt k = 0) : zpT pt = pt 64 + pt 65 + pt 66 + pt 67 + pt 68 + pt 69 := by
  have : ∀ n, zpS pt (6 + n) = zpS pt 6 := fun n => by
    induction n with
    | zero => rfl
    | succ n ih =>
      show zpS pt (6 + n) + pt (64 + (6 + n)) = _
      rw [ih, h _ (by omega)]
      rfl
  show zpS pt (6 + 28) = _
  rw [this 28]
  show 0 + pt 64 + pt 65 + pt 66 + pt 67 + pt 68 + pt 69 = _
  omega
theorem cx_born (hok : zOk X) {np sz : Nat → Nat} (hx : zGo g 1 x = some [.null, .int 0, .null, .null, .null, .int 0, .int 0, .int 0, .null, .null, .null, .null]) (hz : zGz g + 20000 ≤ zz X) {D : Nat} (hD : 10 ≤ D)
    (hK : ∀ g' : zG, zFe zPc g g' → zRR X x z0i z0a [] 0 0 np sz (zGz g + 13000) g' → K none g') : zCal X D yX1_init wX1_init [.ref x] g K KX := by
  obtain ⟨d, rfl⟩ : ∃ d, D = d + 7 := ⟨D - 7, by omega⟩
  refine mX1_init (d := d + 6) hok x (fun E C hQ => ⟨by decide, by decide, by show zGz g + 1 + 4 ≤ _; omega, fun a0 h0 g1 e1 => ?_⟩)
  have f1 : zFe (fun k => k = 1050) g g1 := by
    rw [e1]
    exact (zFe.si (P := fun k => k = 1050) (t := 50) rfl).trans (zFe.sz _)
  have z1 : zGz g1 = zGz g + 5 := by rw [e1]; rfl
  have o1 : zGi g1 50 a0 = some (4, z0a 0) := by
    rw [e1]
    show zup _ _ _ _ _ _ = _
    rw [zup_s]
    rfl
  refine ⟨_, f1.1 1 (by omega) _ _ hx, by simp, fun g2 e2 => ⟨[.ref a0, .int 0, .null, .null, .null, .int 0, .int 0, .int 0, .null, .null, .null, .null], by rw [e2, zSo_o, zup_s]; rfl, by simp, fun g3 e3 => ?_⟩⟩
  have f3 : zFe (fun k => k = 1) g1 g3 := by
    rw [e3, e2]
    exact zFe.so1.trans zFe.so1
  have z3 : zGz g3 = zGz g1 := by rw [e3, e2]; rfl
  have x3 : zGo g3 1 x = some [.ref a0, .int 50, .null, .null, .null, .int 0, .int 0, .int 0, .null, .null, .null, .null] := by
    rw [e3, zSo_o, zup_s]
    rfl
  refine cn_list (d := d + 3) hok (t := 64) (j := 2) (by omega) (by omega) x3 (by simp) (fun a2 g4 l2 x4 f4 z4 => ?_)
  refine cn_list (d := d + 3) hok (t := 65) (j := 3) (by omega) (by omega) x4 (by simp) (fun a3 g5 l3 x5 f5 z5 => ?_)
  refine bX1_init_39 (d := d + 6) C hQ g5 _ ?_
  refine cn_list (d := d + 3) hok (t := 66) (j := 4) (by omega) (by omega) x5 (by simp) (fun a4 g6 l4 x6 f6 z6 => ?_)
  refine ⟨_, x6, by simp, fun g7 e7 => ?_⟩
  have f7 : zFe (fun k => k = 1) g6 g7 := by
    rw [e7]
    exact zFe.so1
  have z7 : zGz g7 = zGz g6 := by rw [e7]; rfl
  have x7 : zGo g7 1 x = some [.ref a0, .int 50, .ref a2, .ref a3, .ref a4, .int 0, .int 1, .int 0, .null, .null, .null, .null] := by
    rw [e7, zSo_o, zup_s]
    rfl
  refine cn_list (d := d + 3) hok (t := 67) (j := 8) (by omega) (by omega) x7 (by simp) (fun a8 g8 l8 x8 f8 z8 => ?_)
  refine cn_list (d := d + 3) hok (t := 68) (j := 9) (by omega) (by omega) x8 (by simp) (fun a9 g9 l9 x9 f9 z9 => ?_)
  refine bX1_init_77 (d := d + 6) C hQ g9 _ ⟨by decide, by decide, by show zGz g9 + 1 + 80 ≤ _; omega, fun a10 h10 g10 e10 => ?_⟩
  have f10 : zFe (fun k => k = 1051) g9 g10 := by
    rw [e10]
    exact (zFe.si (P := fun k => k = 1051) (t := 51) rfl).trans (zFe.sz _)
  have z10 : zGz g10 = zGz g9 + 81 := by rw [e10]; rfl
  have o10 : zGi g10 51 a10 = some (80, fun _ => 0) := by
    rw [e10]
    show zup _ _ _ _ _ _ = _
    rw [zup_s]
    rfl
  refine ⟨_, f10.1 1 (by omega) _ _ x9, by simp, fun g11 e11 => ?_⟩
  have f11 : zFe (fun k => k = 1) g10 g11 := by
    rw [e11]
    exact zFe.so1
  have z11 : zGz g11 = zGz g10 := by rw [e11]; rfl
  refine cn_list (d := d + 3) hok (t := 69) (j := 11) (by omega) (by omega) (show zGo g11 1 x = some [.ref a0, .int 50, .ref a2, .ref a3, .ref a4, .int 0, .int 1, .int 0, .ref a8, .ref a9, .ref a10, .null] by rw [e11, zSo_o, zup_s]; rfl) (by simp) (fun a11 g12 l11 x12 f12 z12 => ?_)
  refine bX1_init_96 (d := d + 6) C hQ g12 _ ?_
  have u10 : zFe (fun k => k = 69 ∨ k = 1) g10 g12 := (f11.mono (fun k h => Or.inr h)).trans f12
  have u9 : zFe (fun k => k = 69 ∨ k = 1 ∨ k = 1051) g9 g12 := (f10.mono (fun k h => Or.inr (Or.inr h))).trans (u10.mono (fun k h => by omega))
  have u8 : zFe (fun k => k = 68 ∨ k = 69 ∨ k = 1 ∨ k = 1051) g8 g12 := (f9.mono (fun k h => by omega)).trans (u9.mono (fun k h => by omega))
  have u6 : zFe (fun k => k = 67 ∨ k = 68 ∨ k = 69 ∨ k = 1 ∨ k = 1051) g6 g12 := ((f7.mono (fun k h => by omega)).trans (f8.mono (fun k h => by omega))).trans (u8.mono (fun k h => by omega))
  have u5 : zFe (fun k => k = 66 ∨ k = 67 ∨ k = 68 ∨ k = 69 ∨ k = 1 ∨ k = 1051) g5 g12 := (f6.mono (fun k h => by omega)).trans (u6.mono (fun k h => by omega))
  have u4 : zFe (fun k => k = 65 ∨ k = 66 ∨ k = 67 ∨ k = 68 ∨ k = 69 ∨ k = 1 ∨ k = 1051) g4 g12 := (f5.mono (fun k h => by omega)).trans (u5.mono (fun k h => by omega))
  have u1 : zFe (fun k => k = 64 ∨ k = 65 ∨ k = 66 ∨ k = 67 ∨ k = 68 ∨ k = 69 ∨ k = 1 ∨ k = 1051) g1 g12 := ((f3.mono (fun k h => by omega)).trans (f4.mono (fun k h => by omega))).trans (u4.mono (fun k h => by omega))
  have x12 : zGo g12 1 x = some [.ref a0, .int 50, .ref a2, .ref a3, .ref a4, .int 0, .int 1, .int 0, .ref a8, .ref a9, .ref a10, .ref a11] := x12
  rw [show (0 : Int32) = nI 0 from nI_0.symm]
  refine cx_born_l (d := d) hok (ad0 := a0) C hQ (t4 := a4) rfl (by omega) x12 (fun g' l p b1 b2 b3 b4 b5 b6 => ?_) 8 0 g12 [] 2000 (by omega) rfl List.nodup_nil (zFe.rf _ _) (l4.fe u6 (by omega)) (fun q hq => (by cases hq)) (by omega)
  have w1 : zFe (fun k => k = 2 ∨ k = 64 ∨ k = 65 ∨ k = 66 ∨ k = 67 ∨ k = 68 ∨ k = 69 ∨ k = 1 ∨ k = 1051) g1 g' := (u1.mono (fun k h => by omega)).trans (b1.mono (fun k h => by omega))
  refine hK g' ((f1.mono (fun k h => by unfold zPc; omega)).trans (w1.mono (fun k h => by unfold zPc; omega))) ?_
  refine ⟨fun j => if j = 0 then a0 else if j = 2 then a2 else if j = 3 then a3 else if j = 4 then a4 else if j = 8 then a8 else if j = 9 then a9 else if j = 10 then a10 else a11, fun _ => 0, fun _ => 0, fun _ _ => 0, fun a => (l.idxOf a, 0, 11000), fun k => if k < 70 then (if k = 66 then p else if 64 ≤ k then 2000 else 0) else 0, ⟨⟨b1.1 1 (by omega) _ _ x12, w1.2.1 50 (by omega) _ _ o1, ⟨?_, fun v hv => absurd hv (Nat.not_lt_zero v)⟩, ⟨?_, fun v hv => (by cases hv)⟩, ⟨l, b2, ?_, fun kd hkd => ?_⟩, ?_, ?_, ⟨_, b1.2.1 51 (by omega) _ _ (u10.2.1 51 (by omega) _ _ o10)⟩, ⟨[], ?_⟩, fun q hq => absurd hq (Nat.not_lt_zero q)⟩, fun i hi => absurd hi (Nat.not_lt_zero i)⟩, ⟨fun i hi => absurd hi (Nat.not_lt_zero i), fun i j hi => absurd hi (Nat.not_lt_zero i), fun i j hi => absurd hi (Nat.not_lt_zero i), fun i j _ hi => absurd hi (Nat.not_lt_zero i)⟩, ?_⟩
  · exact (l2.fe u4 (by omega)).fe b1 (by omega)
  · exact (l3.fe u5 (by omega)).fe b1 (by omega)
  · exact b4
  · have hm : zr l kd ∈ l := zr_mem (by omega)
    have hi : l.idxOf (zr l kd) = kd := by
      rw [zr_el (by omega)]
      exact List.Nodup.idxOf_getElem b3 kd (by omega)
    refine ⟨none, none, ⟨⟨none, b5 _ hm, rfl⟩, ?_⟩, Nat.zero_le _, fun _ => ⟨rfl, rfl⟩⟩
    show (l.idxOf (zr l kd), 0, 11000) = _
    rw [hi]
  · exact (l8.fe u8 (by omega)).fe b1 (by omega)
  · exact (l9.fe u9 (by omega)).fe b1 (by omega)
  · exact l11.fe b1 (by omega)
  · rw [zpT_0 _ (fun k hk => if_neg (by omega))]
    show zGz g' + (2000 + 2000 + p + 2000 + 2000 + 2000) ≤ _
    omega
end BRN
