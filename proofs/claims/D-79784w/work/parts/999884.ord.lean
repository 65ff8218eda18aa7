set_option maxRecDepth 100000
/-- a row of different things is no longer than one that holds them -/
theorem znd_le : ∀ (A B : List Nat), A.Nodup → (∀ a ∈ A, a ∈ B) → A.length ≤ B.length
  | [], B, _, _ => Nat.zero_le _
  | a :: A, B, hn, hs => by
    obtain ⟨h1, h2⟩ := List.nodup_cons.mp hn
    have ha := hs a List.mem_cons_self
    have := znd_le A (B.erase a) h2 (fun u hu => (List.mem_erase_of_ne (show u ≠ a from fun z => h1 (by rw [← z]; exact hu))).mpr (hs u (List.mem_cons_of_mem _ hu)))
    rw [List.length_erase_of_mem ha] at this
    have hp : 0 < B.length := List.length_pos_of_mem ha
    rw [List.length_cons]
    omega
theorem znd_all {A B : List Nat} (hn : A.Nodup) (hs : ∀ a ∈ A, a ∈ B) (hl : A.length = B.length) {v : Nat} (hv : v ∈ B) : v ∈ A := by
  by_cases c : v ∈ A
  · exact c
  · have := znd_le A (B.erase v) hn (fun u hu => (List.mem_erase_of_ne (show u ≠ v from fun z => c (by rw [← z]; exact hu))).mpr (hs u hu))
    rw [List.length_erase_of_mem hv] at this
    have hp : 0 < B.length := List.length_pos_of_mem hv
    omega
theorem zsf_len : ∀ L : List (List Nat), zsf (fun _ => 1) L = L.length
  | [] => rfl
  | l :: L => by
    show 1 + zsf (fun _ => 1) L = L.length + 1
    rw [zsf_len L]
    omega
theorem zoV_r {fi : Nat → Int32} {fa : Nat → Nat → Int32} {lg : List Nat} {i n v : Nat} {w : Int32} : ∀ k : Nat, zoV fi fa lg i n v w k = nI (zsr (fun k => if (zAn fi fa i n (zlR fa lg lg.length 0 k) lg.length v == w) = true then 1 else 0) k)
  | 0 => nI_0.symm
  | k + 1 => by
    show zoV fi fa lg i n v w k + (if zAn fi fa i n (zlR fa lg lg.length 0 k) lg.length v = w then 1 else 0) = nI (zsr _ k + _)
    rw [zoV_r k, ← nI_add]
    congr 1
    show (if zAn fi fa i n (zlR fa lg lg.length 0 k) lg.length v = w then (1 : Int32) else 0) = nI (if (zAn fi fa i n (zlR fa lg lg.length 0 k) lg.length v == w) = true then 1 else 0)
    by_cases c : zAn fi fa i n (zlR fa lg lg.length 0 k) lg.length v = w
    · rw [if_pos c, if_pos (beq_iff_eq.mpr c)]
      rfl
    · rw [if_neg c, if_neg (fun z => c (beq_iff_eq.mp z))]
      exact nI_0.symm
section ORD
variable {X : zX} {d : Nat} {x : Nat} {ad fo eo : Nat → Nat} {mo : Nat → Nat → Nat} {c : Nat → Nat × Nat × Nat} {pt pt' : Nat → Nat} {fi fi' : Nat → Int32} {fa fa' : Nat → Nat → Int32} {lg : List Nat} {M P : Nat} {np sz : Nat → Nat} {B : Nat} {g g' : zG} {Q : Nat → Prop} {K : Option Value → zG → Prop} {KX : String → zG → Prop}
theorem zPv.nd (hV : zPv fi fa lg M P np sz) : znd fa lg := fun v hv => (hV.2.2.2.2.2.2.1 v (hV.1.2.2.2.1 v hv)).1
theorem go0_null (hok : zOk X) (hM6 : M ≤ 6) {o bl : Nat} {w : Int32} : zGoS X x ad fo eo mo c fi fa lg M P np sz o bl none none w (fun _ => false) 0 := by
  intro pre D g pt pb s K KX hD hlen hnd hsub htm hs hz hW hL ho hK
  obtain ⟨d, rfl⟩ : ∃ d, D = d + 4 := ⟨D - 4, by omega⟩
  obtain ⟨w1, -, -, w4, -⟩ := id hW.1
  refine mX10_go (d := d + 3) hok o (fun E C hQ => ⟨_, _, ho, rfl, hL.is (by omega), ls_size hok hL (by omega) ⟨_, rfl, _, _, ho, rfl, _, _, w1, rfl, w4.1.is (by omega), ls_size hok w4.1 (by omega) ⟨_, rfl, fun z => absurd (by rw [List.length_map, List.length_map, ← hlen, Nat.add_zero]) z, fun _ => ⟨_, _, ho, rfl, _, ho, by simp [zOo], fun g1 e1 => ?_⟩⟩⟩⟩)
  have o1 : zGo g1 10 o = some (zOo bl none none w (s.1 + 1, s.2) x) := by
    rw [e1, zSo_o, zup_s, ← nI_succ]
    rfl
  refine ⟨_, _, o1, rfl, _, none, o1, rfl, fun _ => ⟨_, o1, by simp [zOo], fun g2 e2 => ?_⟩, fun a z => (by cases z)⟩
  have o2 : zGo g2 10 o = some (zOo bl none none w (zpq (fun _ => false) (zgg fa lg 0 pre) s) x) := by
    show zGo g2 10 o = some (zOo bl none none w (if 120 < s.1 then s else (s.1 + 1, s.2 + 0)) x)
    rw [if_neg (by omega), e2, zSo_o, zup_s, Int32.add_zero]
    rfl
  have f2 : zFe (fun k => k = 10) g g2 := by
    rw [e2, e1]
    exact (zFe.so1).trans (zFe.so1)
  have z2 : zGz g2 = zGz g := by rw [e2, e1]; rfl
  exact hK g2 pt pb (f2.mono (fun k hk => Or.inl hk)) (by omega) (hW.keep hM6 f2 (fun k h => by omega) (fun k h => by omega) (fun k h => by omega)) (hL.fe f2 (by omega)) o2
theorem go0_mon (hok : zOk X) (hV : zPv fi fa lg M P np sz) (hJ : zWj fo mo M P np sz) {i v : Nat} (hi : i < M) (hv : v < lg.length) {o bl : Nat} {w : Int32} : zGoS X x ad fo eo mo c fi fa lg M P np sz o bl (some (mo i 0)) (some (eo v)) w (fun l => zAn fi fa i (np i) l lg.length v == w) 0 := by
  intro pre D g pt pb s K KX hD hlen hnd hsub htm hs hz hW hL ho hK
  obtain ⟨d, rfl⟩ : ∃ d, D = d + 4 := ⟨D - 4, by omega⟩
  have hM6 := hV.2.2.1.1
  have h80 := hV.1.2.1
  obtain ⟨w1, -, w3, w4, -, -, -, ⟨f8, w8⟩, -⟩ := id hW.1
  refine mX10_go (d := d + 3) hok o (fun E C hQ => ⟨_, _, ho, rfl, hL.is (by omega), ls_size hok hL (by omega) ⟨_, rfl, _, _, ho, rfl, _, _, w1, rfl, w4.1.is (by omega), ls_size hok w4.1 (by omega) ⟨_, rfl, fun z => absurd (by rw [List.length_map, List.length_map, ← hlen, Nat.add_zero]) z, fun _ => ⟨_, _, ho, rfl, _, ho, by simp [zOo], fun g1 e1 => ?_⟩⟩⟩⟩)
  have o1 : zGo g1 10 o = some (zOo bl (some (mo i 0)) (some (eo v)) w (s.1 + 1, s.2) x) := by
    rw [e1, zSo_o, zup_s, ← nI_succ]
    rfl
  have f1 : zFe (fun k => k = 10) g g1 := by
    rw [e1]
    exact zFe.so rfl
  have z1 : zGz g1 = zGz g := by rw [e1]; rfl
  have hW1 := hW.keep hM6 f1 (fun k h => by omega) (fun k h => by omega) (fun k h => by omega)
  have hL1 := hL.fe f1 (by omega)
  obtain ⟨m1, ⟨l0, m2⟩, m3⟩ := hW1.2 i hi
  obtain ⟨-, -, y3, y4, -, -, -, ⟨f8', y8⟩, -⟩ := id hW1.1
  have hp := zpT_le pt (j := 82 + 3 * i) (by omega) (by omega)
  have hLi := hV.2.2.2.2.1
  have hLp : zLi fi fa pre := by
    obtain ⟨a1, a2, a3, a4, ⟨t, a5, a6, a7⟩, a8, a9⟩ := hLi
    exact ⟨by omega, hnd, fun j k hjk hk => by rw [htm j (by omega), htm k hk]; exact a3 j k hjk (by omega), fun u hu => a4 u (hsub u hu), ⟨t, a5, a6, fun u hu => a7 u (hsub u hu)⟩, fun u hu => a8 u (hsub u hu), fun u hu => a9 u (hsub u hu)⟩
  have hvp : v ∈ pre := znd_all hnd hsub (by omega) (hV.2.1 v hv)
  refine ⟨_, _, o1, rfl, _, some (mo i 0), o1, rfl, fun z => (by cases z), fun a _ => ⟨_, some (mo i 0), o1, rfl, _, some (eo v), o1, rfl, _, _, o1, rfl, mo i 0, rfl, ⟨8, _, m1.1, rfl⟩, ?_⟩⟩
  refine mt_answerFor hok (by omega) (hV.2.2.2.2.2.2.2.1 i hi).1 (hJ.1 i hi) (tl := 72) (by omega) (by omega) (by omega) hLp hV.2.2.2.2.2.1 h80 hv hvp (q0 := pt (82 + 3 * i)) (by omega) (by omega) y3 m1 m2 ⟨hL1, fun u hu => y4.2 u (hsub u hu)⟩ (fun g2 q2 l2 b1 b2 b3 b4 => ⟨_, rfl, ?_⟩)
  have b1' : zFe (zPf i) g1 g2 := b1.mono (fun k hk => Or.inl hk)
  have hW2 := hW1.rw' hM6 hi b1' b4 b3 (b1.2.1 51 (by unfold zPr; omega) _ _ y8)
  have hup := zpT_u pt q2 (k := 82 + 3 * i) (by omega) (by omega)
  have o2 := b1.1 10 (by unfold zPr; omega) _ _ o1
  have hL2 := hL1.fe b1 (by unfold zPr; omega)
  have fin : ∀ (e : Nat) (g3 : zG), e = (if (zAn fi fa i (np i) pre lg.length v == w) = true then 1 else 0) → g3 = zSo g2 10 o ((zOo bl (some (mo i 0)) (some (eo v)) w (s.1 + 1, s.2) x).set 5 (.int (nI s.2 + nI e))) → K none g3 := by
    intro e g3 he e3
    have f3 : zFe (fun k => k = 10) g2 g3 := by
      rw [e3]
      exact zFe.so rfl
    have z3 : zGz g3 = zGz g2 := by rw [e3]; rfl
    refine hK g3 _ pb (((f1.mono (fun k hk => Or.inl hk)).trans (b1'.mono (fun k hk => ?_))).trans (f3.mono (fun k hk => Or.inl hk))) (by omega) (hW2.keep hM6 f3 (fun k h => by omega) (fun k h => by omega) (fun k h => by omega)) (hL2.fe f3 (by omega)) ?_
    · unfold zPf zPr at hk
      omega
    · show zGo g3 10 o = some (zOo bl (some (mo i 0)) (some (eo v)) w (if 120 < s.1 then s else (s.1 + 1, s.2 + if (zAn fi fa i (np i) pre lg.length v == w) = true then 1 else 0)) x)
      rw [if_neg (by omega), e3, zSo_o, zup_s, ← he, nI_add]
      rfl
  refine ⟨_, _, o2, rfl, fun c1 => ⟨_, o2, by simp [zOo], fun g3 e3 => fin 0 g3 ?_ e3⟩, fun c1 => ⟨_, o2, by simp [zOo], fun g3 e3 => fin 1 g3 ?_ e3⟩⟩
  · rw [if_neg (fun z => c1 (beq_iff_eq.mp z))]
  · rw [if_pos (beq_iff_eq.mpr c1)]
theorem ct_Orders (hok : zOk X) {o : Nat} {mr er : Option Nat} {w : Int32} (h0 : zGo g 10 o = some [.null, .null, .null, .int 0, .int 0, .int 0, .null]) (hz : zGz g + 100 ≤ zz X) {D : Nat} (hD : 6 ≤ D) (hK : ∀ (g' : zG) (bl : Nat), zGo g' 10 o = some (zOo bl mr er w (0, 0) x) → zLs X g' 72 bl [] 2000 → zFe (fun k => k = 10 ∨ k = 72) g g' → zGz g' = zGz g + 4 → K none g') : zCal X D yX10_init wX10_init [.ref o, .ref x, va_rf mr, va_rf er, .int w] g K KX := by
  obtain ⟨d, rfl⟩ : ∃ d, D = d + 4 := ⟨D - 4, by omega⟩
  refine mX10_init (d := d + 3) hok o x mr er w ⟨_, h0, by simp, fun g1 e1 => ⟨72, zkc_0 (by omega), by rw [e1]; show zGz g + 1 + 3 ≤ _; omega, fun bl hb g2 e2 => ?_⟩⟩
  have o1 : zGo g1 10 o = some [.null, .null, .null, .int 0, .int 0, .int 0, .ref x] := by rw [e1, zSo_o, zup_s]; rfl
  have f1 : zFe (fun k => k = 10) g g1 := by rw [e1]; exact zFe.so rfl
  have f2 : zFe (fun _ => False) g1 g2 := by rw [e2]; exact zFe.new hb _
  have z2 : zGz g2 = zGz g + 4 := by rw [e2, e1]; rfl
  refine sp_linit (d := d) hok (t := 72) (by omega) (q := bl) (by rw [e2, zSz_o, zSo_o, zup_s]) (fun g3 a1 a2 => ⟨rfl, ?_⟩)
  have f3 := a2.fe (by omega)
  have z3 : zGz g3 = zGz g2 := a2.2.2
  refine ⟨_, f3.1 10 (by omega) _ _ (f2.1 10 id _ _ o1), by simp, fun g4 e4 => ?_⟩
  have o4 : zGo g4 10 o = some [.ref bl, .null, .null, .int 0, .int 0, .int 0, .ref x] := by rw [e4, zSo_o, zup_s]; rfl
  refine ⟨_, o4, by simp, fun g5 e5 => ?_⟩
  have o5 : zGo g5 10 o = some [.ref bl, va_rf mr, .null, .int 0, .int 0, .int 0, .ref x] := by rw [e5, zSo_o, zup_s]; rfl
  refine ⟨_, o5, by simp, fun g6 e6 => ?_⟩
  have o6 : zGo g6 10 o = some [.ref bl, va_rf mr, va_rf er, .int 0, .int 0, .int 0, .ref x] := by rw [e6, zSo_o, zup_s]; rfl
  refine ⟨_, o6, by simp, fun g7 e7 => ?_⟩
  have o7 : zGo g7 10 o = some (zOo bl mr er w (0, 0) x) := by rw [e7, zSo_o, zup_s]; rfl
  have f37 : zFe (fun k => k = 10) g3 g7 := by
    rw [e7, e6, e5, e4]
    exact (((zFe.so1).trans (zFe.so1)).trans (zFe.so1)).trans (zFe.so1)
  have z7 : zGz g7 = zGz g3 := by rw [e7, e6, e5, e4]; rfl
  exact hK g7 bl o7 ⟨0, 0, a1.fe f37 (by omega), by unfold zpot; omega⟩ ((((f1.mono (fun k hk => Or.inl hk)).trans (f2.mono (fun _ h => h.elim))).trans (f3.mono (fun k hk => Or.inr hk))).trans (f37.mono (fun k hk => Or.inl hk))) (by omega)
/-- how many orders there are -/
theorem zgo_len (hV : zPv fi fa lg M P np sz) (hno : zno fa lg) : (zgg fa lg lg.length []).length = zpr fa lg lg.length 0 := by
  have hLi := hV.2.2.2.2.1
  have := zgo_all hV.1.2.2.1 hLi.2.2.1 hno hV.nd (fun _ => 1) lg.length 0 [] (by omega) (Nat.zero_le _) rfl (fun u => by rw [List.take_zero])
  rw [Nat.sub_zero, zsf_len, zsr_c, Nat.mul_one] at this
  exact this
theorem cx_orderMany (hok : zOk X) (hV : zPv fi fa lg M P np sz) (hno : zno fa lg) (hW : zWd X x ad fo eo mo c pt fi fa lg M P np sz g) (hz : zGz g + zpT pt + 3000 ≤ zz X) {D : Nat} (hD : 200 ≤ D)
    (hK : ∀ (g' : zG) (pt' : Nat → Nat), zFe zPo g g' → zGz g' + zpT pt' ≤ zGz g + zpT pt + 2012 → zWd X x ad fo eo mo c pt' fi fa lg M P np sz g' → K (some (.int (nI (zoA fa lg)))) g') : zCal X D yX1_orderMany wX1_orderMany [.ref x] g K KX := by
  obtain ⟨d, rfl⟩ : ∃ d, D = d + 1 := ⟨D - 1, by omega⟩
  have hM6 := hV.2.2.1.1
  have h80 := hV.1.2.1
  have hlv := hV.1.2.2.2.1
  refine mX1_orderMany (d := d) hok x ⟨by omega, fun o hfr g1 e1 => ct_Orders (mr := none) (er := none) hok (by rw [e1, zSz_o, zSo_o, zup_s]) (by rw [e1]; show zGz g + 1 + 7 + 100 ≤ _; omega) (by omega) (fun g2 bl a1 a2 a3 a4 => ⟨rfl, ⟨10, _, a1, rfl⟩, ?_⟩)⟩
  have f1 : zFe (fun _ => False) g g1 := by
    rw [e1]
    exact zFe.new hfr _
  have z1 : zGz g1 = zGz g + 8 := by rw [e1]; rfl
  have f02 : zFe (fun k => k = 10 ∨ k = 72) g g2 := (f1.mono (fun _ h => h.elim)).trans a3
  have hW2 := hW.keep hM6 f02 (fun k h => by omega) (fun k h => by omega) (fun k h => by omega)
  refine cx_go hok hM6 hlv h80 (go0_null hok hM6) lg.length [] d g2 pt 2000 (0, 0) _ _ (by omega) (Nat.zero_add _) List.nodup_nil (fun u hu => (by cases hu)) (fun j hj => absurd hj (Nat.not_lt_zero j)) (Nat.zero_le _) (by omega) hW2 a2 a1 (fun g3 pt3 pb3 b1 b2 b3 b4 b5 => ⟨rfl, _, _, b5, rfl, ?_⟩)
  have hm : (zpq (fun _ => false) (zgg fa lg lg.length []) (0, 0)).1 = zoA fa lg := by
    rw [zpq_1 _ _ _ (Nat.zero_le _), zgo_len hV hno, zoA_pr]
    show (if 120 < 0 + _ then 121 else 0 + _) = _
    rw [Nat.zero_add]
  rw [hm]
  exact hK g3 pt3 ((f02.mono (fun k hk => by unfold zPo; omega)).trans b1) (by omega) b3
theorem zPo_c : ∀ k, zPo k → zPc k := fun k hk => by
  unfold zPo at hk
  unfold zPc
  omega
theorem cs_orders (hok : zOk X) (hV : zPv fi fa lg M P np sz) (hno : zno fa lg) (hR : zRR X x fi fa lg M P np sz B g) (hB : B + 8000 ≤ zz X) {D : Nat} (hD : 300 ≤ D)
    (h1 : ∀ g' : zG, zFe zPc g g' → zRR X x fi fa lg M P np sz (B + 5000) g' → K (some (.int (nI (zoA fa lg)))) g') : zCal X D yX1_orders wX1_orders [.ref x] g K KX := by
  obtain ⟨d, rfl⟩ : ∃ d, D = d + 1 := ⟨D - 1, by omega⟩
  obtain ⟨ad, fo, eo, mo, c, pt, hW, hJ, hz⟩ := hR
  exact mX1_orders (d := d) hok x ⟨⟨1, _, hW.1.1, rfl⟩, cx_orderMany hok hV hno hW (by omega) (by omega) (fun g1 pt1 a1 a2 a3 => ⟨_, rfl, h1 g1 (a1.mono zPo_c) ⟨ad, fo, eo, mo, c, pt1, a3, hJ, by omega⟩⟩)⟩
theorem cs_overOrders (hok : zOk X) (hV : zPv fi fa lg M P np sz) (hno : zno fa lg) (hR : zRR X x fi fa lg M P np sz B g) (hB : B + 8000 ≤ zz X) {v u w : Int32} {D : Nat} (hD : 300 ≤ D)
    (h1 : ∀ i e : Nat, i < M → e < lg.length → v = nI i → u = nI e → ¬ zIn w 0 2 = 0 → zoA fa lg ≤ 120 → ∀ g' : zG, zFe zPc g g' → zRR X x fi fa lg M P np sz (B + 5000) g' → K (some (.int (zoV fi fa lg i (np i) e w (zoA fa lg)))) g')
    (hx : ∀ s : String, ((zIn v 0 (nI M - 1) = 0 ∨ zIn u 0 (nI lg.length - 1) = 0) ∧ s = RJ9) ∨ (¬ (zIn v 0 (nI M - 1) = 0 ∨ zIn u 0 (nI lg.length - 1) = 0) ∧ zIn w 0 2 = 0 ∧ s = RJ12) ∨ (¬ (zIn v 0 (nI M - 1) = 0 ∨ zIn u 0 (nI lg.length - 1) = 0) ∧ ¬ zIn w 0 2 = 0 ∧ ¬ zoA fa lg ≤ 120 ∧ s = RJ13) → ∀ g' : zG, zFe zPc g g' → zRR X x fi fa lg M P np sz (B + 5000) g' → KX s g') : zCal X D yX1_overOrders wX1_overOrders [.ref x, .int v, .int u, .int w] g K KX := by
  obtain ⟨d, rfl⟩ : ∃ d, D = d + 8 := ⟨D - 8, by omega⟩
  have hR0 := hR
  obtain ⟨ad, fo, eo, mo, c, pt, hW, hJ, hz⟩ := hR
  have hM6 := hV.2.2.1.1
  have h80 := hV.1.2.1
  have hlv := hV.1.2.2.2.1
  have inn : ∀ {k n : Nat}, k < n → n < 2 ^ 30 → ¬ zIn (nI k) 0 (nI n - 1) = 0 := fun {k n} h1 h2 => by
    obtain ⟨m, rfl⟩ : ∃ m, n = m + 1 := ⟨n - 1, by omega⟩
    unfold zIn
    rw [nI_pred, if_neg (nI_pos (by omega)), if_neg (nI_nlt (by omega) (by omega))]
    decide
  refine mX1_overOrders (d := d + 7) hok x v u w ⟨⟨1, _, hW.1.1, rfl⟩, cx_monitor hok hV hW (by omega) (by omega) (fun i hi e hm => ⟨_, rfl, ⟨1, _, hW.1.1, rfl⟩, cx_its hok hV hW (by omega) (by omega) (fun j hj e2 hev => ?_) (fun z => hx RJ9 (Or.inl ⟨Or.inr z, rfl⟩) _ (zFe.sz _) ((hR0.up hM6 7).mono (by omega)))⟩) (fun z => hx RJ9 (Or.inl ⟨Or.inl z, rfl⟩) _ (zFe.sz _) ((hR0.up hM6 7).mono (by omega)))⟩
  subst e e2
  have hn : ¬ (zIn (nI i) 0 (nI M - 1) = 0 ∨ zIn (nI j) 0 (nI lg.length - 1) = 0) := fun z => z.elim (inn hi (by omega)) (inn hj (by omega))
  refine ⟨_, rfl, cx_isIn hok ⟨_, rfl, zIn_bo _ _ _, sp_check (d := d + 1) hok (fun n3 => ⟨rfl, ⟨1, _, hW.1.1, rfl⟩, cx_orderMany hok hV hno hW (by omega) (by omega) (fun g1 pt1 a1 a2 a3 => ⟨_, rfl, fun c1 => ?_, fun c1 => ?_⟩)⟩) (fun z => ⟨by omega, hx RJ12 (Or.inr (Or.inl ⟨hn, z, rfl⟩)) _ (zFe.sz _) ((hR0.up hM6 7).mono (by omega))⟩)⟩⟩
  · have hR1 : zRR X x fi fa lg M P np sz (B + 2012) g1 := ⟨ad, fo, eo, mo, c, pt1, a3, hJ, by omega⟩
    refine sp_allow (d := d + 1) hok (fun z => absurd rfl z) (fun _ => ⟨by omega, hx RJ13 (Or.inr (Or.inr ⟨hn, n3, fun z => ?_, rfl⟩)) _ ((a1.mono zPo_c).trans (zFe.sz _)) ((hR1.up hM6 7).mono (by omega))⟩)
    exact absurd c1 (show ¬ (nI 120 : Int32) < nI (zoA fa lg) from nI_nlt z (by omega))
  · have hle : zoA fa lg ≤ 120 := by
      by_cases z : zoA fa lg ≤ 120
      · exact z
      · have := zoA_le fa lg
        exact absurd (show (nI 120 : Int32) < nI (zoA fa lg) from nI_lt (by omega) (by omega)) c1
    refine sp_allow (d := d + 1) hok (fun _ => ⟨rfl, by omega, fun o hfr g2 e2 => ct_Orders (mr := some (mo i 0)) (er := some (eo j)) hok (by rw [e2, zSz_o, zSo_o, zup_s]) (by rw [e2]; show zGz g1 + 1 + 7 + 100 ≤ _; omega) (by omega) (fun g3 bl b1 b2 b3 b4 => ⟨rfl, ⟨10, _, b1, rfl⟩, ?_⟩)⟩) (fun z => absurd z (by decide))
    have f2 : zFe (fun _ => False) g1 g2 := by
      rw [e2]
      exact zFe.new hfr _
    have z2 : zGz g2 = zGz g1 + 8 := by rw [e2]; rfl
    have f13 : zFe (fun k => k = 10 ∨ k = 72) g1 g3 := (f2.mono (fun _ h => h.elim)).trans b3
    have hW3 := a3.keep hM6 f13 (fun k h => by omega) (fun k h => by omega) (fun k h => by omega)
    refine cx_go hok hM6 hlv h80 (go0_mon hok hV hJ hi hj) lg.length [] _ g3 pt1 2000 (0, 0) _ _ (by omega) (Nat.zero_add _) List.nodup_nil (fun u hu => (by cases hu)) (fun j hj => absurd hj (Nat.not_lt_zero j)) (Nat.zero_le _) (by omega) hW3 b2 b1 (fun g4 pt4 pb4 c1 c2 c3 c4 c5 => ⟨rfl, _, _, c5, rfl, ?_⟩)
    have hLi := hV.2.2.2.2.1
    have hpr : zpr fa lg lg.length 0 = zoA fa lg := by
      have := zoA_pr fa lg
      by_cases z : 120 < zpr fa lg lg.length 0
      · rw [if_pos z] at this
        omega
      · rw [if_neg z] at this
        exact this.symm
    have hsum := zgo_all hV.1.2.2.1 hLi.2.2.1 hno hV.nd (fun l => if (zAn fi fa i (np i) l lg.length j == w) = true then 1 else 0) lg.length 0 [] (by omega) (Nat.zero_le _) rfl (fun u => by rw [List.take_zero])
    rw [Nat.sub_zero, hpr] at hsum
    have hh : (zpq (fun l => zAn fi fa i (np i) l lg.length j == w) (zgg fa lg lg.length []) (0, 0)).2 = zsr (fun k => if (zAn fi fa i (np i) (zlR fa lg lg.length 0 k) lg.length j == w) = true then 1 else 0) (zoA fa lg) := by
      rw [zpq_2 _ _ _ (by rw [zgo_len hV hno, hpr]; show 0 + _ ≤ _; omega)]
      show 0 + _ = _
      rw [Nat.zero_add]
      exact hsum
    rw [hh, ← zoV_r]
    exact h1 i j hi hj rfl rfl n3 hle g4 (((a1.mono zPo_c).trans (f13.mono (fun k hk => by unfold zPc; omega))).trans (c1.mono zPo_c)) ⟨ad, fo, eo, mo, c, pt4, c3, hJ, by omega⟩
end ORD
