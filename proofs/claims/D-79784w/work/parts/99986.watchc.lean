set_option maxRecDepth 100000
/-- the addresses of a new monitor's things -/
def zmn (a b1 rw b2 ra b3 : Nat) : Nat → Nat
  | 0 => a
  | 1 => b1
  | 2 => rw
  | 3 => b2
  | 4 => ra
  | 5 => b3
  | p + 6 => ra + 1 + p
theorem zmn_6 (a b1 rw b2 ra b3 p : Nat) : zmn a b1 rw b2 ra b3 (6 + p) = ra + 1 + p := by
  rw [Nat.add_comm 6 p]
  rfl
def zmw (mo : Nat → Nat → Nat) (M : Nat) (m : Nat → Nat) : Nat → Nat → Nat := fun i => if i = M then m else mo i
theorem zmw_s {mo : Nat → Nat → Nat} {M : Nat} {m : Nat → Nat} : zmw mo M m M = m := if_pos rfl
theorem zmw_n {mo : Nat → Nat → Nat} {M i : Nat} {m : Nat → Nat} (h : i ≠ M) : zmw mo M m i = mo i := if_neg h
def zfx (fo : Nat → Nat) (M : Nat) : Nat → Nat := fun k => if 192 + 24 * M ≤ k then fo (k - (192 + 24 * M)) else fo k
theorem zfx_s {fo : Nat → Nat} {M p : Nat} : zfx fo M (192 + 24 * M + p) = fo p := by
  unfold zfx
  rw [if_pos (by omega)]
  congr 1
  omega
theorem zfx_n {fo : Nat → Nat} {M r : Nat} (h : r < 192 + 24 * M) : zfx fo M r = fo r := if_neg (by omega)
/-- a monitor that is known of none so far, its count of what was taken back is told apart -/
theorem ztk_0 {fa : Nat → Nat → Int32} {ans : Nat → Int32} {i old : Nat} : ∀ k : Nat, (∀ v, v < k → v < old → fa 25 (80 * i + v) = ans v) → ztk fa ans i old k = fa 24 i
  | 0, _ => rfl
  | k + 1, h => by
    show ztk fa ans i old k + (if k < old ∧ ¬ fa 25 (80 * i + k) = ans k ∧ ¬ fa 25 (80 * i + k) = 2 then 1 else 0) = _
    rw [ztk_0 k (fun v hv => h v (by omega)), if_neg (fun z => z.2.1 (h k (by omega) z.1)), Int32.add_zero]
section WC
variable {X : zX} {d : Nat} {x : Nat} {ad fo eo : Nat → Nat} {mo : Nat → Nat → Nat} {c : Nat → Nat × Nat × Nat} {pt pt' : Nat → Nat} {fi fi' : Nat → Int32} {fa fa' : Nat → Nat → Int32} {lg : List Nat} {M P n : Nat} {np sz : Nat → Nat} {B : Nat} {g g' : zG} {Q : Nat → Prop} {K : Option Value → zG → Prop} {KX : String → zG → Prop} {x1 x2 : Int32}
theorem zMs.fcg {i : Nat} {mo f1 f2 : Nat → Nat} {np : Nat} {t : Int32} (h : zMs X i x ad mo f1 np t fi fa g) (h0 : 0 < np) (e : ∀ p, p < np → f2 p = f1 p) : zMs X i x ad mo f2 np t fi fa g := by
  obtain ⟨a1, a2, ⟨q, a3⟩, a4, a5⟩ := h
  have el : (List.range np).map f2 = (List.range np).map f1 := List.map_congr_left (fun p hp => e p (List.mem_range.mp hp))
  exact ⟨by rw [e (np - 1) (by omega)]; exact a1, a2, ⟨q, by rw [el]; exact a3⟩, fun p hp => by rw [e p hp, zff_fo (fun r hr => e r (by omega))]; exact a4 p hp, a5⟩
theorem zff_w {q : Nat} {s : Int32} (hq : q < n) : zff X (zw2 fa M n x1 x2) (192 + 24 * M) (fun p => zfx fo M (192 + 24 * M + p)) q s = zff X fa 0 fo q s := by
  have e : (fun p => zfx fo M (192 + 24 * M + p)) = fo := by
    funext p
    exact zfx_s
  rw [e]
  unfold zff zfp1 zfp2 zf1
  rw [zw2_new (by omega) (by omega) hq, zw2_new (by omega) (by omega) hq, zw2_new (by omega) (by omega) hq, zw2_new (by omega) (by omega) hq, zw2_new (by omega) (by omega) (show q - 1 < n by omega), Nat.zero_add, Nat.zero_add]
theorem zWj_wt (hJ : zWj fo mo M 1 np sz) {a b1 rw b2 ra b3 : Nat} (hne : ∀ i, i < M → mo i 0 ≠ a) : zWj (zfx fo M) (zmw mo M (zmn a b1 rw b2 ra b3)) (M + 1) 0 (znp np M n) sz := by
  obtain ⟨j1, j2, -, -⟩ := hJ
  refine ⟨fun i hi => ?_, fun i j hi hj h => ?_, fun p q hp => absurd hp (Nat.not_lt_zero p), fun p i q hp => absurd hp (Nat.not_lt_zero p)⟩
  · by_cases c : i = M
    · rw [c, znp_s, zmw_s]
      intro p q _ _ h
      rw [zmn_6, zmn_6] at h
      omega
    · rw [znp_n c, zmw_n c]
      exact j1 i (by omega)
  · by_cases c : i = M
    · by_cases c2 : j = M
      · omega
      · rw [c, zmw_s, zmw_n c2] at h
        exact absurd h.symm (hne j (by omega))
    · by_cases c2 : j = M
      · rw [c2, zmw_s, zmw_n c] at h
        exact absurd h (hne i (by omega))
      · rw [zmw_n c, zmw_n c2] at h
        exact j2 i j (by omega) (by omega) h
/-- watch -/
theorem cs_watch (hok : zOk X) (hV : zPv fi fa lg M P np sz) (hR : zRR X x fi fa lg M P np sz B g) (hB : B + 12000 ≤ zz X) (hx1 : zbo x1) (hx2 : zbo x2) {D : Nat} (hD : 120 ≤ D)
    (h1 : P = 1 → M < 6 → ∀ g' : zG, zFe zPc g g' → (∀ fi' fa', zwt fi fa lg M (sz 0) x1 x2 fi' fa' → zRR X x fi' fa' lg (M + 1) 0 (znp np M (sz 0)) sz (B + 10000) g' ∧ zPv fi' fa' lg (M + 1) 0 (znp np M (sz 0)) sz) → K (some (.int (nI M))) g')
    (hx : ¬ (P = 1 ∧ M < 6) → KX RJ13 (zSz g (zGz g + 7))) : zCal X D yX1_watch wX1_watch [.ref x, .int x1, .int x2] g K KX := by
  obtain ⟨d, rfl⟩ : ∃ d, D = d + 8 := ⟨D - 8, by omega⟩
  have hM6 := hV.2.2.1.1
  have hP8 := hV.2.2.2.1.2.1
  have h80 := hV.1.2.1
  have hlv := hV.1.2.2.2.1
  obtain ⟨ad, fo, eo, mo, c, pt, hW, hJ, hz⟩ := hR
  obtain ⟨w1, w2, w3, w4, ⟨tl, l1, l2, l3⟩, w6, w7, ⟨f, w8⟩, ⟨l9, w9⟩, w10⟩ := id hW.1
  have hlen6 : ((List.range P).map (fun j => fo (zsum sz (j + 1) - 1))).length = P := by rw [List.length_map, List.length_range]
  have hlen7 : ((List.range M).map (fun i => mo i 0)).length = M := by rw [List.length_map, List.length_range]
  have ex : ¬ (P = 1 ∧ M < 6) → zCal X (d + 7) yX1_allow wX1_allow [.int 0] g (fun r g_5 => r = none ∧ False) KX := fun z => sp_allow (d := d + 1) hok (fun z => absurd rfl z) (fun _ => ⟨by omega, hx z⟩)
  refine mX1_watch (d := d + 7) hok x x1 x2 ⟨_, _, w1, rfl, w6.is (by omega), ls_size hok w6 (by omega) ⟨_, rfl, fun c1 => ex (fun z => ?_), fun c1 => ⟨_, _, w1, rfl, w7.is (by omega), ls_size hok w7 (by omega) ⟨_, rfl, fun c2 => ex (fun z => ?_), fun c2 => sp_allow (d := d + 1) hok (fun _ => ⟨rfl, _, _, w1, rfl, by omega, fun a hfr g1 e1 => ?_⟩) (fun z => absurd z (by decide))⟩⟩⟩⟩
  · rw [hlen6, z.1] at c1
    exact c1 rfl
  · rw [hlen7] at c2
    exact absurd c2 (show ¬ (nI 6 : Int32) ≤ nI M from nI_ge z.2 (by omega))
  have hP1 : P = 1 := by
    rw [hlen6] at c1
    exact (nI_eq (b := 1) (by omega) (by omega)).mp c1
  have hM : M < 6 := by
    rw [hlen7] at c2
    by_cases z : M < 6
    · exact z
    · exact absurd (show (nI 6 : Int32) ≤ nI M from nI_le (by omega) (by omega)) c2
  subst hP1
  obtain ⟨s1, s2, s3, s4, s5, s6⟩ := id hV.2.2.2.1
  have hs : zsum sz 1 = sz 0 := by
    show 0 + sz 0 = sz 0
    omega
  obtain ⟨-, hn0, hn24⟩ := s3 0 (by omega)
  have h19 := s6 0 (by omega)
  rw [show zsum sz (0 + 1) = sz 0 from hs] at h19
  rw [hs] at s5 w10
  have hw6 : zLs X g 67 (ad 8) [fo (sz 0 - 1)] (pt 67) := by
    have e : (List.range 1).map (fun j => fo (zsum sz (j + 1) - 1)) = [fo (sz 0 - 1)] := by
      show [fo (zsum sz 1 - 1)] = _
      rw [hs]
    rw [← e]
    exact w6
  have hn := h1 rfl hM
  clear h1 hx ex
  generalize hnn : sz 0 = n at *
  have f1 : zFe (fun _ => False) g g1 := by
    rw [e1]
    exact zFe.new hfr _
  have z1 : zGz g1 = zGz g + 9 := by rw [e1]; rfl
  have h0 : zGo g1 8 a = some [.null, .null, .null, .int 0, .int 0, .null, .int 0, .null] := by rw [e1, zSz_o, zSo_o, zup_s]
  have hw61 := hw6.fe f1 id
  have p67 := zpT_le2 pt (j := 67) (k := 68) (by omega) (by omega) (by omega) (by omega) (by omega)
  refine ⟨_, _, f1.1 1 id _ _ w1, rfl, hw61.is (by omega), ?_⟩
  show zCal X (d + 7) yJ2_remove wJ2_remove [.ref (ad 8), .int (nI 0)] g1 _ _
  refine ls_remove (d := d + 5) hok hw61 (by omega) (by simp) (fun y hy => ?_) (fun g2 b1 b2 => ⟨some _, rfl, _, rfl, ?_⟩)
  · obtain ⟨s, hs⟩ := w10 (n - 1) (by omega)
    rw [List.mem_singleton.mp hy]
    exact ⟨7, by omega, 7, _, f1.1 7 id _ _ hs, rfl⟩
  have b1' : zLs X g2 67 (ad 8) [] (pt 67) := b1
  have f2 := b2.fe (by omega)
  have z2 : zGz g2 = zGz g1 := b2.2.2
  have f02 : zFe (fun k => k = 67) g g2 := (f1.mono (fun _ h => h.elim)).trans f2
  have F2 : ∀ q, q < n → ∃ s : Int32, zGo g2 7 (fo q) = some (zff X fa 0 fo q s) := fun q hq => by
    obtain ⟨s, hs⟩ := w10 q hq
    exact ⟨s, f02.1 7 (by omega) _ _ hs⟩
  have hinj : ∀ p q, p < n → q < n → fo p = fo q → p = q := fun p q hp hq => hJ.2.2.1 p q (by rw [hs]; exact hp) (by rw [hs]; exact hq)
  have is7 : zIs g2 7 (fo (n - 1)) := by
    obtain ⟨s, hs⟩ := F2 (n - 1) (by omega)
    exact ⟨7, _, hs, rfl⟩
  have hsz : zsz fa (0 + (n - 1)) = n := by
    unfold zsz
    rw [Nat.zero_add, h19, nI_clamp (by omega)]
  refine ⟨is7, ct_Monitor hok hM hn24 (by omega) s5 hinj hx1 hx2 (f2.1 8 (by omega) _ _ h0) F2 hsz (by omega) (by omega) (fun g3 b1 b2 b3 rw ra q1 m1 m2 m3 m4 m5 m6 m7 m8 m9 m10 m11 m12 m13 => ⟨rfl, ?_⟩)⟩
  have w73 := (w7.fe f02 (by omega)).fe m9 (by omega)
  refine ⟨w73.is (by omega), ls_add (d := d + 1) hok w73 (by omega) ⟨8, by omega, 8, _, m1, rfl⟩ (fun y hy => ?_) (by omega) (by omega) (fun g4 p4 k1 k2 k3 => ⟨_, rfl, Or.inr rfl, ?_⟩)⟩
  · obtain ⟨i, hi, rfl⟩ := List.mem_map.mp hy
    have hi' := List.mem_range.mp hi
    have o8 := (hW.2 i hi').1.1
    have hne : mo i 0 ≠ a := fun z => by
      rw [z, hfr.1 8] at o8
      cases o8
    exact ⟨8, by omega, 8, _, m11 _ hne _ (f02.1 8 (by omega) _ _ o8), rfl⟩
  have f4 := k2.fe (by omega)
  have n7 : ∀ b fs, (∀ q, q < n → fo q ≠ b) → zGo g 7 b = some fs → zGo g4 7 b = some fs := fun b fs hb h => f4.1 7 (by omega) _ _ (m10 b hb fs (f02.1 7 (by omega) _ _ h))
  have hne8 : ∀ i, i < M → mo i 0 ≠ a := fun i hi z => by
    have o8 := (hW.2 i hi).1.1
    rw [z, hfr.1 8] at o8
    cases o8
  have f34 : zFe (fun k => k = 7 ∨ k = 8 ∨ k = 9 ∨ k = 67 ∨ k = 68 ∨ k = 80 + 3 * M ∨ k = 81 + 3 * M ∨ k = 82 + 3 * M) g g4 := ((f02.mono (fun k hk => by omega)).trans (m9.mono (fun k hk => by omega))).trans (f4.mono (fun k hk => by omega))
  have x4 := f34.1 1 (by omega) _ _ w1
  have i0 : (zw1 fi M) 1 = fi 1 ∧ (zw1 fi M) 2 = fi 2 ∧ (zw1 fi M) 4 = fi 4 ∧ (zw1 fi M) 5 = fi 5 := ⟨rfl, rfl, rfl, rfl⟩
  -- the potentials
  have tr2 := zpT_2 pt (pt 67) p4 (j := 67) (k := 68) (by omega) (by omega) (by omega) (by omega) (by omega)
  have tr3 := zpT_2 (zpu (zpu pt 67 (pt 67)) 68 p4) 2000 2000 (j := 81 + 3 * M) (k := 82 + 3 * M) (by omega) (by omega) (by omega) (by omega) (by omega)
  generalize hpt2 : zpu (zpu (zpu (zpu pt 67 (pt 67)) 68 p4) (81 + 3 * M) 2000) (82 + 3 * M) 2000 = pt2 at tr3
  have q68 : pt2 68 = p4 := by rw [← hpt2, zpu_n _ _ (by omega), zpu_n _ _ (by omega), zpu_s]
  have q67 : pt2 67 = pt 67 := by rw [← hpt2, zpu_n _ _ (by omega), zpu_n _ _ (by omega), zpu_n _ _ (by omega), zpu_s]
  have q81 : pt2 (81 + 3 * M) = 2000 := by rw [← hpt2, zpu_n _ _ (by omega), zpu_s]
  have q82 : pt2 (82 + 3 * M) = 2000 := by rw [← hpt2, zpu_s]
  have qo : ∀ k, k ≠ 67 → k ≠ 68 → k ≠ 81 + 3 * M → k ≠ 82 + 3 * M → pt2 k = pt k := fun k h1 h2 h3 h4 => by rw [← hpt2, zpu_n _ _ h4, zpu_n _ _ h3, zpu_n _ _ h2, zpu_n _ _ h1]
  -- the world
  have W4 : zWb X x ad (zfx fo M) eo (zmw mo M (zmn a b1 rw b2 ra b3)) c pt2 (zw1 fi M) (zw2 fa M n x1 x2) lg (M + 1) 0 sz g4 := by
    refine ⟨by rw [zxs_c i0]; exact x4, by rw [zw2_oth (by omega)]; exact f34.2.1 50 (by omega) _ _ w2, ?_, ?_, ⟨tl, l1, by rw [qo 66 (by omega) (by omega) (by omega) (by omega)]; exact l2.fe f34 (by omega), fun kd hkd => ?_⟩, ?_, ?_, ⟨f, f34.2.1 51 (by omega) _ _ w8⟩, ⟨l9, by rw [qo 69 (by omega) (by omega) (by omega) (by omega)]; exact w9.fe f34 (by omega)⟩, fun q hq => absurd hq (Nat.not_lt_zero q)⟩
    · rw [qo 64 (by omega) (by omega) (by omega) (by omega)]
      have := w3.fe f34 (by omega) (by omega)
      exact ⟨this.1, fun v hv => by rw [zef_c (fa := fa) (n := lg.length) (fun j j1 j2 v _ => by rw [zw2_oth (by omega)]) hv]; exact this.2 v hv⟩
    · rw [qo 65 (by omega) (by omega) (by omega) (by omega)]
      have := w4.fe f34 (by omega) (by omega)
      exact ⟨this.1, fun v hv => by rw [zef_c (fa := fa) (n := lg.length) (fun j j1 j2 v _ => by rw [zw2_oth (by omega)]) (hlv v hv)]; exact this.2 v hv⟩
    · rw [zEk_c (fa := fa) (fun j j1 j2 v _ => by rw [zw2_oth (by omega)])]
      exact zTr.fr f34 (by omega) 14 _ _ _ _ (l3 kd hkd) (fun b l r fs k1 _ _ _ _ => ⟨f34.1 2 (by omega) _ _ k1, rfl⟩)
    · rw [q67]
      exact (b1'.fe m9 (by omega)).fe f4 (by omega)
    · rw [q68, List.range_succ, List.map_append]
      have e : (List.range M).map (fun i => zmw mo M (zmn a b1 rw b2 ra b3) i 0) = (List.range M).map (fun i => mo i 0) := List.map_congr_left (fun i hi => by
        have := List.mem_range.mp hi
        rw [zmw_n (by omega)])
      have e2 : [M].map (fun i => zmw mo M (zmn a b1 rw b2 ra b3) i 0) = [a] := by
        show [zmw mo M (zmn a b1 rw b2 ra b3) M 0] = _
        rw [zmw_s]
        rfl
      rw [e, e2]
      exact k1
  have G4 : ∀ i, i < M + 1 → zWg X x ad (zmw mo M (zmn a b1 rw b2 ra b3) i) (zfx fo M) pt2 (zw1 fi M) (zw2 fa M n x1 x2) (znp np M n i) i (zw2 fa M n x1 x2 24 i) (if i = M then 0 else lg.length) (fun v => zw2 fa M n x1 x2 25 (80 * i + v)) (fun v => zw2 fa M n x1 x2 26 (80 * i + v)) g4 := by
    intro i hi
    by_cases ci : i = M
    · subst ci
      rw [zmw_s, znp_s, if_pos rfl, zw2_21.2.2.2, pk_us]
      refine ⟨⟨?_, by rw [zxs_c i0]; exact x4, ⟨q1, ?_⟩, fun p hp => ?_, ?_⟩, ⟨[], by rw [q82]; exact m4.fe f4 (by omega)⟩, ⟨[], rfl, by rw [q81]; exact m3.fe f4 (by omega), fun v hv => absurd hv (Nat.not_lt_zero v)⟩⟩
      · show zGo g4 8 a = some [.ref (zfx fo i (192 + 24 * i + (n - 1))), .ref b1, .ref rw, .int (zw2 fa i n x1 x2 21 i), .int (zw2 fa i n x1 x2 22 i), .ref b3, .int 0, .ref x]
        rw [zfx_s, zw2_21.1, zw2_21.2.1, pk_us, pk_us]
        exact f4.1 8 (by omega) _ _ m1
      · have e : (List.range n).map (fun p => zfx fo i (192 + 24 * i + p)) = (List.range n).map fo := List.map_congr_left (fun p _ => zfx_s)
        rw [e]
        exact m2.fe f4 (by omega)
      · show zGo g4 7 (zfx fo i (192 + 24 * i + p)) = some (zff X (zw2 fa i n x1 x2) (192 + 24 * i) (fun p => zfx fo i (192 + 24 * i + p)) p (nI p))
        rw [zff_w hp, zfx_s]
        exact f4.1 7 (by omega) _ _ (m5 p hp)
      · refine ⟨f4.1 9 (by omega) _ _ m6, ⟨_, f4.2.2.1 i (Or.inl (by omega)) _ _ m7, fun p hp => ?_⟩, fun p hp => ⟨fun _ => 0, f4.2.1 (52 + i) (by omega) _ (80, fun _ => 0) ?_⟩⟩
        · show (if p < n then some (ra + 1 + p) else none) = some (zmn a b1 rw b2 ra b3 (6 + p))
          rw [if_pos hp, zmn_6]
        · show zGi g3 (52 + i) (zmn a b1 rw b2 ra b3 (6 + p)) = _
          rw [zmn_6]
          exact m8 p hp
    · have hi' : i < M := by omega
      rw [zmw_n ci, znp_n ci, if_neg ci, zw2_21.2.2.2, pk_un ci, zw2_oth (j := 25) (by omega), zw2_oth (j := 26) (by omega)]
      obtain ⟨⟨a1, a2, ⟨q, a3⟩, a4, a5⟩, ⟨l, d1⟩, d2⟩ := hW.2 i hi'
      have hnp := (hV.2.2.1.2.2 i hi').1
      have hnp0 := (hV.2.2.1.2.2 i hi').2.1
      have f03 : zFe (fun k => k = 7 ∨ k = 8 ∨ k = 9 ∨ k = 67 ∨ k = 68 ∨ k = 80 + 3 * M ∨ k = 81 + 3 * M ∨ k = 82 + 3 * M) g g4 := f34
      have ms : zMs X i x ad (mo i) (fun p => fo (192 + 24 * i + p)) (np i) (fa 24 i) fi fa g4 := by
        refine ⟨f4.1 8 (by omega) _ _ (m11 _ (hne8 i hi') _ (f02.1 8 (by omega) _ _ a1)), f34.1 1 (by omega) _ _ a2, ⟨q, a3.fe f34 (by omega)⟩, fun p hp => n7 _ _ (fun r hr => ?_) (a4 p hp), ?_⟩
        · exact hJ.2.2.2 r i p (by rw [hs]; exact hr) hi' hp
        · obtain ⟨t1, ⟨ft, t2, t3⟩, t4⟩ := a5
          refine ⟨f4.1 9 (by omega) _ _ (m12 _ _ (f02.1 9 (by omega) _ _ t1)), ⟨ft, f34.2.2.1 i (Or.inl (by omega)) _ _ t2, t3⟩, fun p hp => ?_⟩
          obtain ⟨F, hF⟩ := t4 p hp
          exact ⟨F, f34.2.1 (52 + i) (by omega) _ _ hF⟩
      refine ⟨(ms.cg (fi' := zw1 fi M) (fa' := zw2 fa M n x1 x2) i0 (fun j j1 j2 p hp => zw2_old j1 j2 (by omega)) (by rw [zw2_21.1, pk_un ci]) (by rw [zw2_21.2.1, pk_un ci])).fcg hnp0 (fun p hp => zfx_n (by omega)), ⟨l, by rw [qo _ (by omega) (by omega) (by omega) (by omega)]; exact d1.fe f34 (by omega)⟩, ?_⟩
      rw [qo _ (by omega) (by omega) (by omega) (by omega)]
      obtain ⟨lk, y1, y2, y3⟩ := d2
      refine ⟨lk, y1, y2.fe f34 (by omega), fun v hv => (y3 v hv).fe f34 (by omega)⟩
  have hV' : ∀ fi' fa', zwt fi fa lg M n x1 x2 fi' fa' → zPv fi' fa' lg (M + 1) 0 (znp np M n) sz := fun fi' fa' h => zPv_wt hV hM hnn h
  -- one set of arrays that the watch leaves
  have hLi : zLi (zw1 fi M) (zw2 fa M n x1 x2) lg := by
    have b5 := hV.2.2.2.2.1
    unfold zLi zri zti at b5 ⊢
    rw [zw2_oth (j := 7) (by omega), zw2_oth (j := 10) (by omega)]
    exact b5
  have hFc : ∀ i, i < M + 1 → zFc i (znp np M n i) (zw2 fa M n x1 x2) := by
    have hh := (hV' (zw1 fi M) _ ⟨fun _ _ _ _ => rfl, zkR_self _ _ _ _ _ _⟩).2.2.2.2.2.2.2.1
    intro i hi
    have := (hh i hi).1
    exact this.cf (fun j j1 j2 => (zkR_self (zw2 fa M n x1 x2) (zAn (zw1 fi M) (zw2 fa M n x1 x2) M n lg lg.length) (nI lg.length) M 0 lg.length).1 j (by omega) (by omega) (by omega) (by omega) (by omega) (by omega) (by omega) |>.symm)
  have hJ' := zWj_wt (n := n) (sz := sz) hJ (a := a) (b1 := b1) (rw := rw) (b2 := b2) (ra := ra) (b3 := b3) hne8
  have hmul : 3 * lg.length * (M + 1) ≤ 1440 := by
    have h1 : 3 * lg.length * (M + 1) ≤ 3 * lg.length * 6 := Nat.mul_le_mul_left _ (by omega)
    omega
  refine ⟨⟨1, _, x4, rfl⟩, cx_findv (P := 0) (sz := sz) (old := fun i => if i = M then 0 else lg.length) hok (by omega) h80 (fun i _ => by split <;> omega) hLi hFc hJ'.1 hJ'.2.1 (pt := pt2) (by omega) (by omega) W4 G4 (fun g5 pt5 v1 v2 v3 v4 => ⟨rfl, ?_⟩)⟩
  obtain ⟨y1, -, -, -, -, -, y7, -⟩ := id v3
  refine ⟨_, _, y1, rfl, y7.is (by omega), ls_size hok y7 (by omega) ⟨_, rfl, ?_⟩⟩
  rw [List.length_map, List.length_range, nI_pred]
  refine hn g5 ((f34.mono (fun k hk => by unfold zPc; omega)).trans (v1.mono (fun k hk => by unfold zPz at hk; unfold zPc; omega))) (fun fi' fa' h => ⟨?_, hV' fi' fa' h⟩)
  obtain ⟨hf, r1, r2, r3, r4⟩ := h
  have i1 : fi' 1 = (zw1 fi M) 1 ∧ fi' 2 = (zw1 fi M) 2 ∧ fi' 4 = (zw1 fi M) 4 ∧ fi' 5 = (zw1 fi M) 5 := ⟨hf 1 (by decide) (by decide) (by decide), hf 2 (by decide) (by decide) (by decide), hf 4 (by decide) (by decide) (by decide), hf 5 (by decide) (by decide) (by decide)⟩
  have aj (j : Nat) (h1 : j ≠ 24) (h2 : j ≠ 25) (h3 : j ≠ 26) (h4 : j ≠ 28) (h5 : j ≠ 30) (h6 : j ≠ 32) (h7 : j ≠ 33) : fa' j = zw2 fa M n x1 x2 j := r1 j h1 h2 h3 h4 h5 h6 h7
  refine ⟨ad, _, eo, _, c, pt5, ⟨v3.cg hlv i1 (aj 0 (by decide) (by decide) (by decide) (by decide) (by decide) (by decide) (by decide)) (fun j j1 j2 v _ => by rw [aj j (by omega) (by omega) (by omega) (by omega) (by omega) (by omega) (by omega)]) (fun j j1 j2 v _ => by rw [aj j (by omega) (by omega) (by omega) (by omega) (by omega) (by omega) (by omega)]), fun i hi => ?_⟩, hJ', by omega⟩
  have b13 := hV.2.2.2.2.2.2.2.2.2.2.2.2
  refine (v4 i hi).kn' i1 (fun j j1 j2 => aj j (by omega) (by omega) (by omega) (by omega) (by omega) (by omega) (by omega)) (aj 21 (by decide) (by decide) (by decide) (by decide) (by decide) (by decide) (by decide)) (aj 22 (by decide) (by decide) (by decide) (by decide) (by decide) (by decide) (by decide)) ?_ (fun v hv => ?_) (fun v hv => ?_)
  · rw [r4 i]
    by_cases ci : i = M
    · subst ci
      rw [if_pos rfl, if_pos rfl, znp_s]
    · rw [if_neg ci, if_neg ci, znp_n ci]
      refine (ztk_0 _ (fun v hv _ => ?_)).symm
      rw [zw2_oth (j := 25) (by omega), b13 i v (by omega) hv]
      exact (zAn_w (fi' := zw1 fi M) (fa' := zw2 fa M n x1 x2) hV (show i < M by omega) (fun j _ _ _ _ _ _ _ => rfl) rfl rfl).symm
  · rw [r2]
    unfold zkp
    by_cases ci : i = M
    · subst ci
      rw [if_pos (by omega), znp_s, show 80 * i + v - 80 * i = v by omega]
    · rw [if_neg (by omega), znp_n ci, zw2_oth (j := 25) (by omega), b13 i v (by omega) hv]
      exact (zAn_w (fi' := zw1 fi M) (fa' := zw2 fa M n x1 x2) hV (show i < M by omega) (fun j _ _ _ _ _ _ _ => rfl) rfl rfl).symm
  · rw [r3]
    unfold zsc'
    by_cases ci : i = M
    · subst ci
      rw [if_pos rfl, znp_s, show 80 * i + v - 80 * i = v by omega]
      by_cases cc : 0 ≤ v ∨ ¬ zw2 fa i n x1 x2 25 (80 * i + v) = zAn (zw1 fi i) (zw2 fa i n x1 x2) i n lg lg.length v
      · rw [if_pos ⟨by omega, by omega, cc⟩, if_pos cc]
      · exact absurd (Or.inl (Nat.zero_le v)) cc
    · rw [if_neg (by omega), if_neg ci, znp_n ci, if_neg ?_]
      rw [zw2_oth (j := 25) (by omega), b13 i v (by omega) hv]
      rintro (z | z)
      · omega
      · exact z (zAn_w (fi' := zw1 fi M) (fa' := zw2 fa M n x1 x2) hV (show i < M by omega) (fun j _ _ _ _ _ _ _ => rfl) rfl rfl).symm
end WC
