set_option maxRecDepth 100000
/-! the law's loop, and its entry -/
theorem hdS_X1_init : yX1_init.cls ≠ "java/lang/invoke/MethodHandle" ∧ yX1_init.cls ≠ "java/lang/invoke/VarHandle" ∧ (parseMethodDescriptor yX1_init.desc).map (fun d => d.parameters.length) = some 0 := by decide +kernel
theorem hdS_X3_init : yX3_init.cls ≠ "java/lang/invoke/MethodHandle" ∧ yX3_init.cls ≠ "java/lang/invoke/VarHandle" ∧ (parseMethodDescriptor yX3_init.desc).map (fun d => d.parameters.length) = some 0 := by decide +kernel
section LAWL
variable {X : zX} {E : zM} {nm : String} {x m o b0 k D b L : Nat} {xs : Nat → Int32} {g : zG}
theorem zIw.up {cd : Int32} (h : zIw X x m b0 k cd g) : zIw X x m b0 (k + 1) cd g := by
  obtain ⟨fi, fa, adm, lg, M, P, np, sz, h34, hR, hM, hV, hno⟩ := h
  exact ⟨fi, fa, adm, lg, M, P, np, sz, h34, hR.mono (by omega), hM, hV, hno⟩
theorem zlp_gt {L a : Nat} (hL : L ≤ 384) (ha : a ≤ 1000) (h : ¬ nI L - 6 < nI a) : a + 6 ≤ L := by
  by_cases c : 6 ≤ L
  · obtain ⟨n, rfl⟩ : ∃ n, L = n + 6 := ⟨L - 6, by omega⟩
    rw [show nI (n + 6) - 6 = nI n from by rw [← nI_add n 6]; exact Int32.add_sub_cancel _ _] at h
    by_cases q : n < a
    · exact absurd (nI_lt q (by omega)) h
    · omega
  · refine absurd ?_ h
    rw [Int32.lt_iff_toInt_lt, nI_toInt (by omega)]
    have : L = 0 ∨ L = 1 ∨ L = 2 ∨ L = 3 ∨ L = 4 ∨ L = 5 := by omega
    rcases this with rfl | rfl | rfl | rfl | rfl | rfl
    · rw [show (nI 0 - 6).toInt = -6 by decide]; omega
    · rw [show (nI 1 - 6).toInt = -5 by decide]; omega
    · rw [show (nI 2 - 6).toInt = -4 by decide]; omega
    · rw [show (nI 3 - 6).toInt = -3 by decide]; omega
    · rw [show (nI 4 - 6).toInt = -2 by decide]; omega
    · rw [show (nI 5 - 6).toInt = -1 by decide]; omega
theorem zlp_in {L a : Nat} (h : a < L) (hL : L ≤ 384) : vp_in (nI a) L := vp_in_nI h (by omega)
theorem zlp_5 {L a : Nat} (h : a + 6 ≤ L) (hL : L ≤ 384) : zLi5 (nI a) L := by
  have e (j : Nat) (hj : j < 6) : vp_in (nI a + nI j) L := by
    rw [nI_add]
    exact zlp_in (by omega) hL
  exact ⟨e 1 (by omega), e 2 (by omega), e 3 (by omega), e 4 (by omega), e 5 (by omega)⟩
theorem bL_loop (hok : zOk X) (hnc : zNx X) (C : zC X (D + 2) E RX0 cL_law 7 ret nm) (hS0 : zLS X E b L xs) (hb : b0 + 15000 * 64 + 20000 ≤ zz X) (hD : 400 ≤ D) (hL : L ≤ 384) (hEnd : ∀ (g : zG) (lc : List (Nat × Value)), GW X E 7 g 2651 lc []) : ∀ (f k : Nat) (g : zG) (cd : Int32), 65 ≤ k + f → 6 * k ≤ L → zIw X x m b0 k cd g → zOut o g → GW X E 7 g 23 [(0, .ref b), (1, .ref x), (2, .ref m), (3, .ref o), (4, .int (nI (6 * k)))] []
  | 0, k, g, cd, hf, hkL, I, hO => by omega
  | f + 1, k, g, cd, hf, hkL, I, hO => by
    intro H locs ls hR hS hl
    refine lv_iload C.x C.b dL_law_23 (lv_at hl 4 rfl) ?_
    refine lv_aload_n C.x C.b dL_law_25 rfl (lv_at hl 0 rfl) ?_
    refine z_slen C hS hS0.1 hS0.2.1 hS0.2.2 dL_law_26 ?_
    refine lv_bipush (v := 6) C.x C.b dL_law_27 (by decide) ?_
    refine lv_isub C.x C.b dL_law_29 ?_
    refine lv_icmp_gt (tgt := 2651) C.x C.b dL_law_30 (by decide) (fun c => hEnd g _ H locs ls hR hS hl) (fun c => ?_)
    have hle := zlp_gt hL (by omega) c
    have hG : ∀ (g3 : zG) (cd : Int32), zIw X x m b0 (k + 1) cd g3 → zOut o g3 → GW X E 7 g3 2645 [(0, .ref b), (1, .ref x), (2, .ref m), (3, .ref o), (4, .int (nI (6 * k)))] [] := fun g3 cd I3 hO3 => by
      intro H locs ls hR hS hl
      refine lv_iinc (k := 4) (v := nI (6 * (k + 1))) C.x C.b dL_law_2645 hl rfl ?_ (by decide) rfl (fun ls hl => ?_)
      · rw [show 6 * (k + 1) = 6 * k + 6 by omega, ← nI_add (6 * k) 6]
        rfl
      · refine lv_goto (tgt := 23) C.x C.b dL_law_2648 (by decide) ?_
        exact bL_loop hok hnc C hS0 hb hD hL hEnd f (k + 1) g3 cd (by omega) (by omega) I3 hO3 H locs ls hR hS (lv_sub hl [1, 2, 3, 4, 0] rfl)
    exact bL_switch hok hnc C hS0 hb (by omega) hD (zlp_5 hle hL) I hO (hG g cd I.up hO) hG (zlp_in (by omega) hL) (zlp_5 hle hL) H locs ls hR hS hl
theorem bL_entry (hok : zOk X) (hnc : zNx X) (C : zC X (D + 2) E RX0 cL_law 7 ret nm) (hS0 : zLS X E b L xs) (hb : zGz g + 23000 + 15000 * 64 + 20000 ≤ zz X) (hD : 400 ≤ D) (hL : L ≤ 384) (hEnd : ∀ (g : zG) (lc : List (Nat × Value)), GW X E 7 g 2651 lc []) : GW X E 7 g 0 [(0, .ref b)] [] := by
  obtain ⟨d, rfl⟩ : ∃ d, D = d + 8 := ⟨D - 8, by omega⟩
  intro H locs ls hR hS hl
  refine z_new C hR hS 1 rfl (ci := 1) rfl in_X1 tyX1 tyX1_ok q110 q111 q73 (fs := [.null, .int 0, .null, .null, .null, .int 0, .int 0, .int 0, .null, .null, .null, .null]) zdf_X1 (by omega) dL_law_0 (fun x hx H hR hS => ?_)
  generalize e1 : zSz (zSo g 1 x [.null, .int 0, .null, .null, .null, .int 0, .int 0, .int 0, .null, .null, .null, .null]) (zGz g + 1 + 12) = g1 at hR
  have z1 : zGz g1 = zGz g + 13 := by rw [← e1]; rfl
  have hx1 : zGo g1 1 x = some [.null, .int 0, .null, .null, .null, .int 0, .int 0, .int 0, .null, .null, .null, .null] := by rw [← e1, zSz_o, zSo_o, zup_s]
  refine lv_dup C.x C.b dL_law_3 rfl ?_
  refine z_callI C hR hS hl (n := 0) (y := yX1_init) (bytes := cX1_init) (maxL := 2) (As := []) (rest := [.ref x]) (KX := zKF) (lw_meth q114) q73 q112 q113 rfl hdS_X1_init (by decide) rfl rfl (Nat.le_of_ble_eq_true rfl) dL_law_4 (cx_born (K := fun r g' => r = none ∧ zRR X x z0i z0a [] 0 0 (fun _ => 0) (fun _ => 0) (zGz g1 + 13000) g') hok hx1 (by omega) (by omega) (fun g' _ h2 => ⟨rfl, h2⟩)) (fun r g2 hk_ => ?_) (fun s g1 h => zKF.ex h)
  obtain ⟨rfl, hRR⟩ := hk_
  show GW X E 7 g2 7 [(0, .ref b)] [.ref x]
  intro H locs ls hR hS hl
  have z2 : zGz g2 ≤ zGz g1 + 13000 := by
    obtain ⟨ad, fo, eo, mo, c, pt, -, -, h⟩ := hRR
    omega
  refine lv_astore_n (lv' := [(1, .ref x), (0, .ref b)]) C.x C.b dL_law_7 rfl hl (by decide) rfl (fun ls hl => ?_)
  refine z_new C hR hS 3 rfl (ci := 3) rfl in_X3 tyX3 tyX3_ok q1631 q1632 q82 (fs := zMh (fun _ => 0) (fun _ => .null)) zdf_X3 (by omega) dL_law_8 (fun m hm H hR hS => ?_)
  generalize e3 : zSz (zSo g2 3 m (zMh (fun _ => 0) (fun _ => .null))) (zGz g2 + 1 + 35) = g3 at hR
  have z3 : zGz g3 = zGz g2 + 36 := by rw [← e3]; rfl
  have hm3 : zGo g3 3 m = some (zMh (fun _ => 0) (fun _ => .null)) := by rw [← e3, zSz_o, zSo_o, zup_s]
  have hRR3 : zRR X x z0i z0a [] 0 0 (fun _ => 0) (fun _ => 0) (zGz g1 + 13036) g3 := hRR.fe (by omega) (by rw [← e3]; exact zFe.new hm _) (by omega)
  refine lv_dup C.x C.b dL_law_11 rfl ?_
  refine z_callI C hR hS hl (n := 0) (y := yX3_init) (bytes := cX3_init) (maxL := 1) (As := []) (rest := [.ref m]) (KX := zKF) (lw_meth q1635) q82 q1633 q1634 rfl hdS_X3_init (by decide) rfl rfl (Nat.le_of_ble_eq_true rfl) dL_law_12 (mp_born (d := d + 8) (K := fun r g' => r = none ∧ ∃ ad : Nat → Nat, zFe zPm g3 g' ∧ zMd g' m z0i ad z0a ∧ zGz g' ≤ zGz g3 + 7000) hok hm3 (by omega) (fun g' ad h1 h2 h3 => ⟨rfl, ad, h1, h2, h3⟩)) (fun r g4 hk_ => ?_) (fun s g1 h => zKF.ex h)
  obtain ⟨rfl, ad, hF4, hM4, z4⟩ := hk_
  show GW X E 7 g4 15 [(1, .ref x), (0, .ref b)] [.ref m]
  intro H locs ls hR hS hl
  have hRR4 : zRR X x z0i z0a [] 0 0 (fun _ => 0) (fun _ => 0) (zGz g1 + 20036) g4 := hRR3.fe (by omega) hF4 (by omega)
  refine lv_astore_n (lv' := [(2, .ref m), (1, .ref x), (0, .ref b)]) C.x C.b dL_law_15 rfl hl (by decide) rfl (fun ls hl => ?_)
  refine lv_iconst (v := 1) C.x C.b dL_law_16 (by decide) ?_
  refine z_newJ C hR hS 0 q2142 (by decide) (by decide) (by show zGz g4 + 1 + 1 ≤ _; omega) dL_law_17 (fun o ho H hR hS => ?_)
  generalize e5 : zSz (zSj g4 0 o (1 : Int32).toNatClampNeg (fun _ => 0)) (zGz g4 + 1 + (1 : Int32).toNatClampNeg) = g5 at hR
  have hRR5 : zRR X x z0i z0a [] 0 0 (fun _ => 0) (fun _ => 0) (zGz g1 + 20038) g5 := by
    rw [← e5]
    exact (hRR4.sj 0 o _ _).fe (by omega) (zFe.sz _) (by show zGz g4 + 1 + 1 + (zGz g1 + 20036) ≤ zGz g4 + _; omega)
  have hM5 : zMd g5 m z0i ad z0a := by
    rw [← e5]
    exact hM4
  have hO5 : zOut o g5 := by
    rw [← e5]
    exact ⟨fun _ => 0, zup_s _ _ _ _⟩
  refine lv_astore_n (lv' := [(3, .ref o), (2, .ref m), (1, .ref x), (0, .ref b)]) C.x C.b dL_law_19 rfl hl (by decide) rfl (fun ls hl => ?_)
  refine lv_iconst (v := 0) C.x C.b dL_law_20 (by decide) ?_
  refine lv_istore (lv' := [(4, .int 0), (3, .ref o), (2, .ref m), (1, .ref x), (0, .ref b)]) C.x C.b dL_law_21 hl (by decide) rfl (fun ls hl => ?_)
  have I : zIw X x m (zGz g1 + 20038) 0 0 g5 := ⟨z0i, z0a, ad, [], 0, 0, fun _ => 0, fun _ => 0, rfl, hRR5.mono (by omega), hM5, z0_pv _ _, z0_no⟩
  have := bL_loop (b0 := zGz g1 + 20038) hok hnc C hS0 (by omega) hD hL hEnd 65 0 g5 0 (by omega) (by omega) I hO5
  rw [Nat.mul_zero, nI_0] at this
  exact this H locs ls hR hS (lv_sub hl [4, 3, 2, 1, 0] rfl)
end LAWL
