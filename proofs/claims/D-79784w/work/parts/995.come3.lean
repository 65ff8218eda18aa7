set_option maxRecDepth 100000
/-- what a coming event may change -/
def zPy (k : Nat) : Prop := zPz k ∨ k = 1 ∨ k = 2 ∨ k = 64 ∨ k = 65
theorem zFc.cf {i np : Nat} {fa fa' : Nat → Nat → Int32} (h : zFc i np fa) (h1 : ∀ j : Nat, 16 ≤ j → j ≤ 19 → fa' j = fa j) : zFc i np fa' := by
  unfold zFc zwf zsz at h ⊢
  simp only [h1 16 (by omega) (by omega), h1 17 (by omega) (by omega), h1 18 (by omega) (by omega), h1 19 (by omega) (by omega)]
  exact h
section CO3
variable {X : zX} {d : Nat} {x : Nat} {ad fo eo : Nat → Nat} {mo : Nat → Nat → Nat} {c : Nat → Nat × Nat × Nat} {pt pt' : Nat → Nat} {fi fi' : Nat → Int32} {fa fa' : Nat → Nat → Int32} {lg : List Nat} {M P : Nat} {np sz : Nat → Nat} {g g' : zG} {Q : Nat → Prop} {K : Option Value → zG → Prop} {KX : String → zG → Prop}
theorem cx_come (hok : zOk X) (hV : zPv fi fa lg M P np sz) (hJ : zWj fo mo M P np sz) (hl : lg.length ≤ 79) (hW : zWd X x ad fo eo mo c pt fi fa lg M P np sz g) {a t k8 : Nat} {nd ix vl lt : Int32} (ht : t ≤ 11000) (hk8 : k8 < 8) (hvl : -1000 ≤ vl.toInt ∧ vl.toInt ≤ 1000) (ha : zGo g 4 a = some [.int (nI lg.length), .int (nI t), .int nd, .int (nI k8), .int ix, .int vl, .int lt]) (hz : zGz g + zpT pt + 2100 ≤ zz X) {D : Nat} (hD : 108 ≤ D)
    (hK : ∀ (g' : zG) (pt' : Nat → Nat) (c' : Nat → Nat × Nat × Nat), zFe zPy g g' → zGz g' + zpT pt' ≤ zGz g + zpT pt + 1600 → zWb X x ad fo (fun v => if v = lg.length then a else eo v) mo c' pt' (zcf fi (nI t)) (zc2 fa lg.length nd (nI t) (nI k8) ix vl lt) (zlg fa lg nd (nI t)) M P sz g' → (∀ i, i < M → zWg X x ad (mo i) fo pt' (zcf fi (nI t)) (zc2 fa lg.length nd (nI t) (nI k8) ix vl lt) (np i) i (ztk (zc2 fa lg.length nd (nI t) (nI k8) ix vl lt) (zAn (zcf fi (nI t)) (zc2 fa lg.length nd (nI t) (nI k8) ix vl lt) i (np i) (zlg fa lg nd (nI t)) (lg.length + 1)) i lg.length (lg.length + 1)) (lg.length + 1) (zkq (zc2 fa lg.length nd (nI t) (nI k8) ix vl lt) (zAn (zcf fi (nI t)) (zc2 fa lg.length nd (nI t) (nI k8) ix vl lt) i (np i) (zlg fa lg nd (nI t)) (lg.length + 1)) i (lg.length + 1)) (zsq (zc2 fa lg.length nd (nI t) (nI k8) ix vl lt) (zAn (zcf fi (nI t)) (zc2 fa lg.length nd (nI t) (nI k8) ix vl lt) i (np i) (zlg fa lg nd (nI t)) (lg.length + 1)) (nI (lg.length + 1)) i lg.length (lg.length + 1)) g') → K none g') : zCal X D yX1_come wX1_come [.ref x, .ref a] g K KX := by
  obtain ⟨d, rfl⟩ : ∃ d, D = d + 7 := ⟨D - 7, by omega⟩
  obtain ⟨hLg, hall, hMo, hSk, hLi, hIr, hnk, hFc, -⟩ := hV
  obtain ⟨hJ1, hJ2, -⟩ := hJ
  have hlv : ∀ v ∈ lg, v < lg.length := hLg.2.2.2.1
  have hM6 := hMo.1
  obtain ⟨⟨w1, w2, w3, w4, ⟨l, l1, l2, l3⟩, w6, w7, ⟨f, w8⟩, ⟨l9, w9⟩, w10⟩, wm⟩ := hW
  have p64 := zpT_le2 pt (j := 64) (k := 65) (by omega) (by omega) (by omega) (by omega) (by omega)
  have hob : ∀ y ∈ (List.range lg.length).map eo, zob g y := fun y hy => by
    obtain ⟨v, hv, rfl⟩ := List.mem_map.mp hy
    exact zob_e (w3.2 v (List.mem_range.mp hv))
  refine mX1_come (d := d + 6) hok x a ⟨_, _, w1, rfl, w3.1.is (by omega), ls_add (d := d) hok w3.1 (by omega) (zob_e ha) hob (by rw [List.length_map, List.length_range]; omega) (by omega) (fun g1 q1 a1 a2 a3 => ⟨_, rfl, Or.inr rfl, ?_⟩)⟩
  have f1 := a2.fe (by omega)
  have x1 := f1.1 1 (by omega) _ _ w1
  have ha1 := f1.1 4 (by omega) _ _ ha
  have w41 := w4.fe f1 (by omega) (by omega)
  refine ⟨_, _, x1, rfl, cx_insert hok (by omega) ha1 w41.1 w41.2 hlv (by omega) (by omega) (by omega) (by omega) (fun g2 q2 b1 b2 b3 => ⟨rfl, ?_⟩)⟩
  have f2 := b2.fe (by omega)
  have x2 := f2.1 1 (by omega) _ _ x1
  have ha2 := f2.1 4 (by omega) _ _ ha1
  refine ⟨_, _, x2, rfl, _, _, ha2, rfl, sp_max hok ⟨_, rfl, _, x2, by simp [zxs], fun g3 e3 => ?_⟩⟩
  have f3 : zFe (fun k => k = 1) g2 g3 := by
    subst e3
    exact zFe.so rfl
  have x3 : zGo g3 1 x = some (zxs ad (zcf fi (nI t))) := by
    rw [e3, zSo_o, zup_s]
    rfl
  have z3' : zGz g3 = zGz g2 := by rw [e3]; rfl
  have ha3 := f3.1 4 (by omega) _ _ ha2
  have f13 : zFe (fun k => k = 1 ∨ k = 64 ∨ k = 65) g g3 := ((f1.mono (fun k hk => Or.inr (Or.inl hk))).trans (f2.mono (fun k hk => Or.inr (Or.inr hk)))).trans (f3.mono (fun k hk => Or.inl hk))
  have l23 := l2.fe f13 (by omega)
  have l33 : ∀ kd : Nat, kd < 8 → zTr kd c g3 14 (zr l kd) 0 11000 (zEk fa (nI kd) lg.length) := fun kd hkd => zTr.fr f13 (by omega) 14 _ _ _ _ (l3 kd hkd) (fun b l r fs k1 _ _ _ _ => ⟨f13.1 2 (by omega) _ _ k1, rfl⟩)
  obtain ⟨lw0, up0, ⟨⟨al0, tr1, -⟩, -⟩, -⟩ := (l33 k8 hk8).top
  have tis : zIs g3 2 (zr l k8) := ⟨2, _, tr1, rfl⟩
  refine ⟨_, _, x3, rfl, _, _, ha3, rfl, l23.is (by omega), ls_get (d := d + 4) hok l23 (by omega) (show k8 < l.length by omega) ?_⟩
  rw [← zr_el (by omega)]
  refine ⟨_, rfl, _, rfl, tis, _, _, ha3, rfl, by omega, fun s hs g5 e5 => ?_⟩
  have f5 : zFe (fun _ => False) g3 g5 := by
    subst e5
    exact zFe.new hs _
  have ha5 := f5.1 4 id _ _ ha3
  refine ⟨_, _, ha5, rfl, cp_Stretch (d := d + 5) hok (d0 := .int 0) (d1 := .int 0) (by rw [e5, zSz_o, zSo_o, zup_s]) ⟨rfl, ?_⟩⟩
  have e6 : zSo g5 5 s [.int 1, .int vl] = zSz (zSo g3 5 s [.int 1, .int vl]) (zGz g3 + 1 + 2) := by
    rw [e5, zSo_sz, zSo_so]
  rw [e6]
  generalize e7 : zSz (zSo g3 5 s [.int 1, .int vl]) (zGz g3 + 1 + 2) = g6
  have f6 : zFe (fun _ => False) g3 g6 := by
    rw [← e7]
    exact zFe.new hs _
  have s6 : zGo g6 5 s = some [.int 1, .int vl] := by rw [← e7, zSz_o, zSo_o, zup_s]
  have z6 : zGz g6 = zGz g3 + 3 := by rw [← e7]; rfl
  have t6 : ∀ kd : Nat, kd < 8 → zTr kd c g6 14 (zr l kd) 0 11000 (zEk fa (nI kd) lg.length) := fun kd hkd => (l33 kd hkd).keep (zTq.fe (S := fun _ => False) f6) (fun _ _ _ _ _ => id)
  refine ⟨⟨2, _, f6.1 2 id _ _ tr1, rfl⟩, ct_add hok 14 (zr l k8) 0 11000 _ c g6 s _ _ _ (t6 k8 hk8) (by decide) (by omega) (Nat.zero_le _) ht s6 (by omega) (by omega) (fun g7 c7 y1 y2 y3 => ⟨rfl, ?_⟩)⟩
  have f7 := y2.1
  have f37 : zFe (fun k => k = 2) g3 g7 := (f6.mono (fun _ h => h.elim)).trans f7
  have f07 : zFe (fun k => k = 1 ∨ k = 2 ∨ k = 64 ∨ k = 65) g g7 := (f13.mono (fun k hk => by omega)).trans (f37.mono (fun k hk => by omega))
  have x7 := f37.1 1 (by omega) _ _ x3
  -- the new numbers
  have old : ∀ j v, v < lg.length → zc2 fa lg.length nd (nI t) (nI k8) ix vl lt j v = fa j v := fun j v hv => zc2_v fa lg.length nd (nI t) (nI k8) ix vl lt hv
  have hi : ∀ j, j < 6 ∨ 11 < j → zc2 fa lg.length nd (nI t) (nI k8) ix vl lt j = fa j := fun j hj => zc2_o fa lg.length nd (nI t) (nI k8) ix vl lt hj
  have nef : zef (zc2 fa lg.length nd (nI t) (nI k8) ix vl lt) lg.length = [.int (nI lg.length), .int (nI t), .int nd, .int (nI k8), .int ix, .int vl, .int lt] := by
    unfold zef zc2 va_up upd
    simp
  have oef : ∀ v, v < lg.length → zef (zc2 fa lg.length nd (nI t) (nI k8) ix vl lt) v = zef fa v := fun v hv => zef_c (n := lg.length) (fun j _ _ v hv => old j v hv) hv
  have eoo : ∀ v, v < lg.length → (fun v => if v = lg.length then a else eo v) v = eo v := fun v hv => if_neg (by omega)
  have eon : (fun v => if v = lg.length then a else eo v) lg.length = a := if_pos rfl
  have ha7 := f07.1 4 (by omega) _ _ ha
  have evs : ∀ v, v < lg.length + 1 → zGo g7 4 ((fun v => if v = lg.length then a else eo v) v) = some (zef (zc2 fa lg.length nd (nI t) (nI k8) ix vl lt) v) := fun v hv => by
    by_cases cv : v = lg.length
    · subst cv
      rw [eon, nef]
      exact ha7
    · rw [eoo v (by omega), oef v (by omega)]
      exact f07.1 4 (by omega) _ _ (w3.2 v (by omega))
  have tr2 := zpT_2 pt q1 q2 (j := 64) (k := 65) (by omega) (by omega) (by omega) (by omega) (by omega)
  have pto : ∀ j, j ≠ 64 → j ≠ 65 → zpu (zpu pt 64 q1) 65 q2 j = pt j := fun j h1 h2 => by rw [zpu_n _ _ h2, zpu_n _ _ h1]
  have W7 : zWb X x ad fo (fun v => if v = lg.length then a else eo v) mo c7 (zpu (zpu pt 64 q1) 65 q2) (zcf fi (nI t)) (zc2 fa lg.length nd (nI t) (nI k8) ix vl lt) (zlg fa lg nd (nI t)) M P sz g7 := by
    refine ⟨x7, by rw [hi 0 (by omega)]; exact f07.2.1 50 (by omega) _ _ w2, ⟨?_, by rw [zlg_len']; exact evs⟩, ⟨?_, fun v hv => evs v ?_⟩, ⟨l, l1, by rw [pto 66 (by omega) (by omega)]; exact l2.fe f07 (by omega), fun kd hkd => ?_⟩, by rw [pto 67 (by omega) (by omega)]; exact w6.fe f07 (by omega), by rw [pto 68 (by omega) (by omega)]; exact w7.fe f07 (by omega), ⟨f, f07.2.1 51 (by omega) _ _ w8⟩, ⟨l9, by rw [pto 69 (by omega) (by omega)]; exact w9.fe f07 (by omega)⟩, fun q hq => ?_⟩
    · rw [zlg_len', zpu_n _ _ (by omega), zpu_s, List.range_succ, List.map_append]
      have e : (List.range lg.length).map (fun v => if v = lg.length then a else eo v) = (List.range lg.length).map eo := List.map_congr_left (fun v hv => eoo v (List.mem_range.mp hv))
      rw [e]
      show zLs X g7 64 (ad 2) ((List.range lg.length).map eo ++ [(fun v => if v = lg.length then a else eo v) lg.length]) q1
      rw [eon]
      exact ((a1.fe f2 (by omega)).fe f3 (by omega)).fe f37 (by omega)
    · rw [zpu_s]
      have e : (zlg fa lg nd (nI t)).map (fun v => if v = lg.length then a else eo v) = (lg.map eo).insertIdx (zpc fa lg nd (nI t)) a := by
        unfold zlg
        rw [map_ins, if_pos rfl]
        congr 1
        exact List.map_congr_left (fun v hv => eoo v (hlv v hv))
      rw [e]
      exact (b1.fe f3 (by omega)).fe f37 (by omega)
    · rcases zlg_mem'.mp hv with h | h
      · omega
      · have := hlv v h
        omega
    · rw [zlg_len']
      have e : zEk (zc2 fa lg.length nd (nI t) (nI k8) ix vl lt) (nI kd) (lg.length + 1) = zEk fa (nI kd) lg.length ++ (if nI k8 = nI kd then [(t, vl)] else []) := by
        show zEk (zc2 fa lg.length nd (nI t) (nI k8) ix vl lt) (nI kd) lg.length ++ _ = _
        rw [zEk_c (fa := fa) (fun j _ _ v hv => old j v hv)]
        congr 1
        have e8 : zc2 fa lg.length nd (nI t) (nI k8) ix vl lt 8 lg.length = nI k8 := by
          unfold zc2 va_up upd
          simp
        have e7' : zc2 fa lg.length nd (nI t) (nI k8) ix vl lt 7 lg.length = nI t := by
          unfold zc2 va_up upd
          simp
        have e10 : zc2 fa lg.length nd (nI t) (nI k8) ix vl lt 10 lg.length = vl := by
          unfold zc2 va_up upd
          simp
        rw [e8, e7', e10, nI_clamp (by omega)]
      rw [e]
      by_cases ck : kd = k8
      · subst ck
        rw [if_pos rfl]
        exact y1
      · rw [if_neg (fun z => ck ((nI_eq (by omega) (by omega)).mp z).symm), List.append_nil]
        exact (t6 kd hkd).keep y2 (fun l r _ _ _ z => ck z.1)
    · obtain ⟨s', hs'⟩ := w10 q hq
      have e : zff X (zc2 fa lg.length nd (nI t) (nI k8) ix vl lt) 0 fo q s' = zff X fa 0 fo q s' := zff_c (n := zsum sz P) (fun j j1 j2 p _ => by rw [hi j (by omega)]) hq
      exact ⟨s', by rw [e]; exact f07.1 7 (by omega) _ _ hs'⟩
  have hn1 : (zlg fa lg nd (nI t)).length = lg.length + 1 := zlg_len'
  have hmul : 3 * (zlg fa lg nd (nI t)).length * M ≤ 1440 := by
    rw [hn1]
    have h1 : 3 * (lg.length + 1) * M ≤ 3 * (lg.length + 1) * 6 := Nat.mul_le_mul_left _ hM6
    omega
  refine ⟨⟨1, _, x7, rfl⟩, cx_find (old := lg.length) hok hM6 (by rw [hn1]; omega) (by rw [hn1]; omega) (zLi_ins hLi hlv hl ht hvl) (fun i hi' => (hFc i hi').1.cf (fun j j1 j2 => hi j (by omega))) hJ1 hJ2 (pt := zpu (zpu pt 64 q1) 65 q2) (by omega) (by omega) W7 (fun i hi' => ?_) (fun g8 pt8 u1 u2 u3 u4 => ⟨rfl, ?_⟩)⟩
  · have h1 : zWg X x ad (mo i) fo pt fi fa (np i) i (fa 24 i) lg.length (fun v => fa 25 (80 * i + v)) (fun v => fa 26 (80 * i + v)) g := wm i hi'
    have h2 := h1.nx (fi' := zcf fi (nI t)) (by omega) f07 x7 (by omega) (by omega) (by omega) (by omega) (by omega) (by omega) (by omega) (by omega)
    have h3 := h2.gp (pt' := zpu (zpu pt 64 q1) 65 q2) (pto _ (by omega) (by omega)) (pto _ (by omega) (by omega))
    have h4 := h3.cg (fi' := zcf fi (nI t)) (fa' := zc2 fa lg.length nd (nI t) (nI k8) ix vl lt) ⟨rfl, rfl, rfl, rfl⟩ (fun j j1 j2 p _ => by rw [hi j (by omega)]) (by rw [hi 21 (by omega)]) (by rw [hi 22 (by omega)])
    rw [hi 24 (by omega), hi 25 (by omega), hi 26 (by omega)]
    exact h4
  · rw [hn1] at u4
    exact hK g8 pt8 c7 ((f07.mono (fun k hk => Or.inr hk)).trans (u1.mono (fun k hk => Or.inl hk))) (by omega) u3 u4
end CO3
