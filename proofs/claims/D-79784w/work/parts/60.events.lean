set_option maxRecDepth 100000
/-- what an event that comes leaves -/
def zev (fi : Nat → Int32) (fa : Nat → Nat → Int32) (lg : List Nat) (M : Nat) (np : Nat → Nat) (its wh kd id vl : Int32) (fi' : Nat → Int32) (fa' : Nat → Nat → Int32) : Prop :=
  ∃ (fi1 : Nat → Int32) (fa1 : Nat → Nat → Int32), zcm (va_up fi 34 0) fa lg its wh kd id vl fi1 fa1 ∧ zkF fi1 fi' ∧ zka fa1 (fun i => zAn fi1 fa1 i (np i) (zlg fa lg its wh) (lg.length + 1)) (nI (lg.length + 1)) lg.length (lg.length + 1) M fa'
/-- what an event that is dropped leaves -/
def zof (fi : Nat → Int32) (fa : Nat → Nat → Int32) (lg : List Nat) (fi' : Nat → Int32) (fa' : Nat → Nat → Int32) : Prop :=
  (∀ j : Nat, j ≠ 4 → j ≠ 27 → j ≠ 29 → j ≠ 31 → j ≠ 34 → fi' j = fi j) ∧ fi' 4 = fi 4 + 1 ∧ fi' 34 = 0 ∧ (∀ j : Nat, j < 6 ∨ 12 < j → j ≠ 28 → j ≠ 30 → j ≠ 32 → j ≠ 33 → fa' j = fa j) ∧ (∀ j : Nat, 6 ≤ j → j ≤ 11 → ∀ v : Nat, v < lg.length → fa' j v = fa j v) ∧ ∀ k : Nat, k < lg.length → fa' 12 k = nI (zr lg k)
theorem zc2_v (fa : Nat → Nat → Int32) (n : Nat) (its wh kd id vl lt : Int32) {j v : Nat} (hv : v < n) : zc2 fa n its wh kd id vl lt j v = fa j v := by
  unfold zc2 va_up upd
  by_cases h11 : j = 11
  · subst h11
    simp [show v ≠ n by omega]
  by_cases h10 : j = 10
  · subst h10
    simp [show v ≠ n by omega]
  by_cases h9 : j = 9
  · subst h9
    simp [show v ≠ n by omega]
  by_cases h8 : j = 8
  · subst h8
    simp [show v ≠ n by omega]
  by_cases h7 : j = 7
  · subst h7
    simp [show v ≠ n by omega]
  by_cases h6 : j = 6
  · subst h6
    simp [show v ≠ n by omega]
  rw [if_neg h11, if_neg h10, if_neg h9, if_neg h8, if_neg h7, if_neg h6]
theorem zc1_3 (fi : Nat → Int32) (n : Nat) (wh : Int32) : zc1 fi n wh 3 = nI (n + 1) := va_up_self _ _ _
theorem zc1_5 (fi : Nat → Int32) (n : Nat) (wh : Int32) : zc1 fi n wh 5 = if fi 5 < wh then wh else fi 5 := rfl
theorem zc1_o (fi : Nat → Int32) (n : Nat) (wh : Int32) {j : Nat} (h3 : j ≠ 3) (h5 : j ≠ 5) : zc1 fi n wh j = fi j := by
  unfold zc1
  rw [va_up_ne _ _ h3, va_up_ne _ _ h5]
section EVS
variable {X : zX} {d : Nat} {g : zG} {K : Option Value → zG → Prop} {KX : String → zG → Prop} {m : Nat} {fi : Nat → Int32} {ad : Nat → Nat} {fa : Nat → Nat → Int32} {lg : List Nat}
theorem zLg.f34 {fi : Nat → Int32} {fa : Nat → Nat → Int32} {lg : List Nat} (hL : zLg fi fa lg) (v : Int32) : zLg (va_up fi 34 v) fa lg := ⟨(va_up_ne _ _ (by decide)).trans hL.1, hL.2⟩
theorem zMo.f34 {fi : Nat → Int32} {fa : Nat → Nat → Int32} {M : Nat} {np : Nat → Nat} (h : zMo fi fa M np) (v : Int32) : zMo (va_up fi 34 v) fa M np := h.fa' (va_up_ne _ _ (by decide)) (fun _ _ _ => rfl)
theorem zxc_i {fi : Nat → Int32} {fa : Nat → Nat → Int32} {x1 x2 x3 x4 x5 : Int32} (h : zxc fi fa x1 x2 x3 x4 x5 = 0) : (∃ a : Nat, a < 4 ∧ x1 = nI a) ∧ ¬ 80 ≤ fi 3 := by
  unfold zxc at h
  by_cases z : zIn x1 0 3 = 0
  · rw [if_pos z] at h
    exact absurd h (by decide)
  · rw [if_neg z] at h
    refine ⟨zIn_c (n := 4) (by decide) (by decide) z, fun w => ?_⟩
    split at h
    · exact absurd h (by decide)
    · rw [if_pos (Or.inr (Or.inl w))] at h
      exact absurd h (by decide)
theorem mp_event (hok : zOk X) (hM : zMd g m fi ad fa) (hL : zLg fi fa lg) (hall : ∀ k, k < lg.length → k ∈ lg) {M : Nat} {np : Nat → Nat} (hM0 : zMo fi fa M np) {x1 x2 x3 x4 x5 : Int32}
    (h1 : zxc fi fa x1 x2 x3 x4 x5 = 0 → lg.length ≤ 79 → ∀ a : Nat, a < 4 → x1 = nI a → ∀ (g' : zG) (fi' : Nat → Int32) (fa' : Nat → Nat → Int32), zMd g' m fi' ad fa' → zNm g g' → zev fi fa lg M np (nI a) (x2 + fa 0 a) x3 x4 x5 fi' fa' → K (some (.int (nI lg.length))) g')
    (h0 : zxc fi fa x1 x2 x3 x4 x5 ≠ 0 → ∀ g' : zG, zMd g' m (va_up fi 34 (zxc fi fa x1 x2 x3 x4 x5)) ad fa → zNm g g' → K (some (.int 0)) g') : zCal X (d + 7) yX3_event wX3_event [.ref m, .int x1, .int x2, .int x3, .int x4, .int x5] g K KX := by
  refine mX3_event (d := d + 6) hok m _ _ _ _ _ ⟨hM.is, mp_canCome (d := d + 4) hok hM (fun z g1 a1 a2 => ⟨1, rfl, Or.inr rfl, fun _ => ?_, fun w => absurd w (by decide)⟩) (fun z g1 a1 a2 => ⟨0, rfl, Or.inl rfl, fun w => absurd rfl w, fun _ => h0 z g1 a1 a2⟩)⟩
  obtain ⟨⟨a, ha, rfl⟩, h80⟩ := zxc_i z
  have hn : lg.length ≤ 79 := by
    have := hL.2.1
    rw [hL.1] at h80
    have := mt (nI_leI (a := 80) (b := lg.length) (by omega) (by omega)).mpr h80
    omega
  refine ⟨a1.is, mp_comes hok a1 (hL.f34 0) hn ha (fun g2 fi2 fa2 b1 b2 b3 => ⟨rfl, _, _, b1.1, rfl, b1.is, ?_⟩)⟩
  have e3 : fi2 3 = nI (lg.length + 1) := by rw [b3.1, zc1_3]
  rw [e3, nI_pred]
  have hlen := zlg_len fa lg (nI a) (x2 + fa 0 a)
  refine mp_keepsAll (d := d) hok b1 (zcm_lg (hL.f34 0) hn b3) (zcm_all hall) (zcm_mo b3 (hM0.f34 0)) (old := lg.length) (by omega) (fun g3 fi3 fa3 c1 c2 c3 c4 => ⟨_, rfl, _, _, c1.1, rfl, ?_⟩)
  rw [c3 3 (by decide) (by decide) (by decide), e3, nI_pred]
  rw [hlen, e3] at c4
  exact h1 z hn a ha rfl g3 fi3 fa3 c1 ((a2.trans b2).trans c2) ⟨fi2, fa2, b3, c3, c4⟩
theorem mp_offer (hok : zOk X) (hM : zMd g m fi ad fa) (hL : zLg fi fa lg) (hall : ∀ k, k < lg.length → k ∈ lg) {M : Nat} {np : Nat → Nat} (hM0 : zMo fi fa M np) {x1 x2 x3 x4 x5 : Int32}
    (h1 : zxc fi fa x1 x2 x3 x4 x5 = 0 → lg.length ≤ 79 → ∀ a : Nat, a < 4 → x1 = nI a → ∀ (fi1 : Nat → Int32) (fa1 : Nat → Nat → Int32), zcm (va_up fi 34 0) fa lg (nI a) (x2 + fa 0 a) x3 x4 x5 fi1 fa1 → zgA fi1 fa1 (zlg fa lg (nI a) (x2 + fa 0 a)) np M = false → ∀ (g' : zG) (fi' : Nat → Int32) (fa' : Nat → Nat → Int32), zMd g' m fi' ad fa' → zNm g g' → zev fi fa lg M np (nI a) (x2 + fa 0 a) x3 x4 x5 fi' fa' → K (some (.int (nI lg.length))) g')
    (h2 : zxc fi fa x1 x2 x3 x4 x5 = 0 → lg.length ≤ 79 → ∀ a : Nat, a < 4 → x1 = nI a → ∀ (fi1 : Nat → Int32) (fa1 : Nat → Nat → Int32), zcm (va_up fi 34 0) fa lg (nI a) (x2 + fa 0 a) x3 x4 x5 fi1 fa1 → zgA fi1 fa1 (zlg fa lg (nI a) (x2 + fa 0 a)) np M = true → ∀ (g' : zG) (fi' : Nat → Int32) (fa' : Nat → Nat → Int32), zMd g' m fi' ad fa' → zNm g g' → zof fi fa lg fi' fa' → K (some (.int (-1))) g')
    (h0 : zxc fi fa x1 x2 x3 x4 x5 ≠ 0 → ∀ g' : zG, zMd g' m (va_up fi 34 (zxc fi fa x1 x2 x3 x4 x5)) ad fa → zNm g g' → K (some (.int 0)) g') : zCal X (d + 7) yX3_offer wX3_offer [.ref m, .int x1, .int x2, .int x3, .int x4, .int x5] g K KX := by
  refine mX3_offer (d := d + 6) hok m _ _ _ _ _ ⟨hM.is, mp_canCome (d := d + 4) hok hM (fun z g1 a1 a2 => ⟨1, rfl, Or.inr rfl, fun _ => ?_, fun w => absurd w (by decide)⟩) (fun z g1 a1 a2 => ⟨0, rfl, Or.inl rfl, fun w => absurd rfl w, fun _ => h0 z g1 a1 a2⟩)⟩
  obtain ⟨⟨a, ha, rfl⟩, h80⟩ := zxc_i z
  have hn : lg.length ≤ 79 := by
    have := hL.2.1
    rw [hL.1] at h80
    have := mt (nI_leI (a := 80) (b := lg.length) (by omega) (by omega)).mpr h80
    omega
  have hlen := zlg_len fa lg (nI a) (x2 + fa 0 a)
  refine ⟨_, _, a1.1, rfl, a1.is, mp_comes hok a1 (hL.f34 0) hn ha (fun g2 fi2 fa2 b1 b2 b3 => ⟨rfl, b1.is, mp_isGuarded (d := d + 1) hok b1 (zcm_lg (hL.f34 0) hn b3) (zcm_all hall) (zcm_mo b3 (hM0.f34 0)) (fun g3 fi3 fa3 c1 c2 c3 => ⟨_, rfl, zbI_b _, fun w => ?_, fun w => ?_⟩)⟩)⟩
  · have hb : zgA fi2 fa2 (zlg fa lg (nI a) (x2 + fa 0 a)) np M = false := by
      cases hb : zgA fi2 fa2 (zlg fa lg (nI a) (x2 + fa 0 a)) np M with
      | false => rfl
      | true =>
        rw [hb] at w
        exact absurd w (by decide)
    have e3 : fi2 3 = nI (lg.length + 1) := by rw [b3.1, zc1_3]
    have e3' : fi3 3 = nI (lg.length + 1) := (c3.1 3 (by decide) (by decide) (by decide)).trans e3
    refine ⟨_, _, c1.1, rfl, c1.is, ?_⟩
    rw [e3', nI_pred]
    have hMo : zMo fi3 fa3 M np := (zcm_mo b3 (hM0.f34 0)).fa' (c3.1 20 (by decide) (by decide) (by decide)) (fun j p q => c3.2 j (by omega) (by omega) (by omega) (by omega))
    refine mp_keepsAll (d := d) hok c1 (c3.lgg (zcm_lg (hL.f34 0) hn b3)) (zcm_all hall) hMo (old := lg.length) (by omega) (fun g4 fi4 fa4 d1 d2 d3 d4 => ⟨_, rfl, _, _, d1.1, rfl, ?_⟩)
    rw [d3 3 (by decide) (by decide) (by decide), e3', nI_pred]
    rw [hlen, e3'] at d4
    refine h1 z hn a ha rfl fi2 fa2 b3 hb g4 fi4 fa4 d1 (((a2.trans b2).trans c2).trans d2) ⟨fi2, fa2, b3, fun j p q r => (d3 j p q r).trans (c3.1 j p q r), ?_⟩
    have e25 : fa3 25 = fa2 25 := c3.2 25 (by decide) (by decide) (by decide) (by decide)
    have e26 : fa3 26 = fa2 26 := c3.2 26 (by decide) (by decide) (by decide) (by decide)
    have e24 : fa3 24 = fa2 24 := c3.2 24 (by decide) (by decide) (by decide) (by decide)
    have ean : (fun i => zAn fi3 fa3 i (np i) (zlg fa lg (nI a) (x2 + fa 0 a)) (lg.length + 1)) = fun i => zAn fi2 fa2 i (np i) (zlg fa lg (nI a) (x2 + fa 0 a)) (lg.length + 1) := by
      funext i
      exact c3.an
    rw [ean] at d4
    obtain ⟨u1, u2, u3, u4⟩ := d4
    refine ⟨fun j p1 p2 p3 p4 p5 p6 p7 => (u1 j p1 p2 p3 p4 p5 p6 p7).trans (c3.2 j p4 p5 p6 p7), fun i e he => ?_, fun i e he => ?_, fun i => ?_⟩
    · rw [u2 i e he, e25]
    · rw [u3 i e he, e25, e26]
    · rw [u4 i, ztk_c e25 e24, e24]
  · have hb : zgA fi2 fa2 (zlg fa lg (nI a) (x2 + fa 0 a)) np M = true := by
      cases hb : zgA fi2 fa2 (zlg fa lg (nI a) (x2 + fa 0 a)) np M with
      | true => rfl
      | false =>
        rw [hb] at w
        exact absurd rfl w
    have e3 : fi2 3 = nI (lg.length + 1) := by rw [b3.1, zc1_3]
    have e3' : fi3 3 = nI (lg.length + 1) := (c3.1 3 (by decide) (by decide) (by decide)).trans e3
    refine ⟨c1.is, mp_goesAway hok c1 e3' hn hL.2.2.2.1 (zpc_le fa lg (nI a) (x2 + fa 0 a)) (fun k hk => ?_) (fun g4 fa4 d1 d2 d3 d4 => ⟨rfl, _, _, d1.1, rfl, _, d1.1, by simp [zMf], fun g5 e5 => ?_⟩)⟩
    · rw [c3.2 12 (by decide) (by decide) (by decide) (by decide)]
      exact b3.2.2 k hk
    · have d5 := d1.si (j := 4) e5 (by decide)
      refine h2 z hn a ha rfl fi2 fa2 b3 hb g5 _ fa4 d5 ((((a2.trans b2).trans c2).trans d2).trans (zNm.si e5)) ⟨fun j p1 p2 p3 p4 p5 => ?_, ?_, ?_, fun j p1 p2 p3 p4 p5 => ?_, fun j p1 p2 v hv => ?_, d4⟩
      · rw [va_up_ne _ _ p1]
        by_cases q5 : j = 5
        · subst q5
          rw [va_up_self, va_up_ne _ _ (by decide)]
        · rw [va_up_ne _ _ q5]
          by_cases q3 : j = 3
          · subst q3
            rw [va_up_self, hL.1]
          · rw [va_up_ne _ _ q3, c3.1 j p2 p3 p4, b3.1, zc1_o _ _ _ q3 q5, va_up_ne _ _ p5]
      · rw [va_up_self, va_up_ne _ _ (by decide), va_up_ne _ _ (by decide), c3.1 4 (by decide) (by decide) (by decide), b3.1, zc1_o _ _ _ (by decide) (by decide), va_up_ne _ _ (by decide)]
      · rw [va_up_ne _ _ (by decide), va_up_ne _ _ (by decide), va_up_ne _ _ (by decide), c3.1 34 (by decide) (by decide) (by decide), b3.1, zc1_o _ _ _ (by decide) (by decide), va_up_self]
      · rw [d3 j (by omega), c3.2 j p2 p3 p4 p5, b3.2.1 j (by omega), zc2_o _ _ _ _ _ _ _ _ (by omega)]
      · rw [d3 j (by omega), c3.2 j (by omega) (by omega) (by omega) (by omega), b3.2.1 j (by omega), zc2_v _ _ _ _ _ _ _ _ hv]
/-- what the close leaves -/
def zcl' (fi : Nat → Int32) (fa : Nat → Nat → Int32) (lg : List Nat) (M : Nat) (np : Nat → Nat) (fi' : Nat → Int32) (fa' : Nat → Nat → Int32) : Prop :=
  zkF (va_up (va_up fi 34 0) 2 1) fi' ∧ zka fa (fun i => zAn (va_up (va_up fi 34 0) 2 1) fa i (np i) lg lg.length) (nI lg.length) lg.length lg.length M fa'
theorem mp_close (hok : zOk X) (hM : zMd g m fi ad fa) (hL : zLg fi fa lg) (hall : ∀ k, k < lg.length → k ∈ lg) {M : Nat} {np : Nat → Nat} (hM0 : zMo fi fa M np)
    (h1 : fi 2 = 0 → ∀ (g' : zG) (fi' : Nat → Int32) (fa' : Nat → Nat → Int32), zMd g' m fi' ad fa' → zNm g g' → zcl' fi fa lg M np fi' fa' → K (some (.int (zkS fa (fun i => zAn (va_up (va_up fi 34 0) 2 1) fa i (np i) lg lg.length) lg.length lg.length M))) g')
    (h0 : fi 2 ≠ 0 → ∀ g' : zG, zMd g' m (va_up fi 34 1) ad fa → zNm g g' → K (some (.int 0)) g') : zCal X (d + 7) yX3_close wX3_close [.ref m] g K KX := by
  refine mX3_close (d := d + 6) hok m (fun E C hQ => ⟨_, _, hM.1, rfl, fun z => ?_, fun z => ?_⟩)
  · refine bX3_close_13 (d := d + 6) C hQ g m m 0 ⟨hM.is, mp_goes2 hok hM (fun w => absurd w (by decide)) (fun _ g2 a1 a2 => ⟨0, rfl, Or.inl rfl, fun w => absurd rfl w, fun _ => h0 z g2 a1 a2⟩)⟩
  · refine bX3_close_13 (d := d + 6) C hQ g m m 1 ⟨hM.is, mp_goes2 hok hM (fun _ g2 a1 a2 => ⟨1, rfl, Or.inr rfl, fun _ => ⟨_, a1.1, by simp [zMf], fun g3 e3 => ?_⟩, fun w => absurd w (by decide)⟩) (fun w => absurd (by decide) w)⟩
    have hM3 := a1.si (j := 2) e3 (by decide)
    refine ⟨_, _, hM3.1, rfl, hM3.is, ?_⟩
    have e3' : va_up (va_up fi 34 0) 2 1 3 = nI lg.length := by
      rw [va_up_ne _ _ (by decide), va_up_ne _ _ (by decide)]
      exact hL.1
    have hLg : zLg (va_up (va_up fi 34 0) 2 1) fa lg := ⟨e3', hL.2⟩
    have hMo : zMo (va_up (va_up fi 34 0) 2 1) fa M np := hM0.fa' (by rw [va_up_ne _ _ (by decide), va_up_ne _ _ (by decide)]) (fun _ _ _ => rfl)
    rw [e3']
    refine mp_keepsAll (d := d) hok hM3 hLg hall hMo hL.2.1 (fun g4 fi4 fa4 b1 b2 b3 b4 => ⟨_, rfl, ?_⟩)
    rw [e3'] at b4
    exact h1 z g4 fi4 fa4 b1 ((a2.trans (zNm.si e3)).trans b2) ⟨b3, b4⟩
end EVS
