set_option maxRecDepth 100000
section CL2
variable {X : zX} {d : Nat} {x : Nat} {ad fo eo : Nat → Nat} {mo : Nat → Nat → Nat} {c : Nat → Nat × Nat × Nat} {pt pt' : Nat → Nat} {fi fi' : Nat → Int32} {fa fa' : Nat → Nat → Int32} {lg : List Nat} {M P : Nat} {np sz : Nat → Nat} {B : Nat} {g g' : zG} {Q : Nat → Prop} {K : Option Value → zG → Prop} {KX : String → zG → Prop}
theorem cx_openMany (hok : zOk X) (hM6 : M ≤ 6) (hn : lg.length ≤ 80) (hW : zWd X x ad fo eo mo c pt fi fa lg M P np sz g) (hz : zGz g + 200 ≤ zz X) {D : Nat} (hD : 10 ≤ D) (hK : ∀ g2 : zG, zFe (fun k => k = 11) g g2 → zGz g2 ≤ zGz g + 40 → K (some (.int (zoM fa lg.length M))) g2) : zCal X D yX1_openMany wX1_openMany [.ref x] g K KX := by
  obtain ⟨d, rfl⟩ : ∃ d, D = d + 3 := ⟨D - 3, by omega⟩
  obtain ⟨w1, -, -, -, -, -, ⟨mc, cap, hL, -⟩, -⟩ := hW.1
  refine mX1_openMany (d := d + 2) hok x (fun E C hQ => ⟨_, _, w1, rfl, hL.is (by omega), it_iterator hok hL (by omega) (by omega) (by omega) (fun q g1 _ a1 a2 a3 => ⟨q, rfl, ?_⟩)⟩)
  refine cx_openMany_l (d := d) (fa := fa) (n := lg.length) (g0 := g1) (B := zGz g + 40) (pt := pt) (fi := fi) (fo := fo) (x := x) (ad := ad) (mo := mo) (np := np) hok hM6 hn C hQ (by omega) (fun g2 b1 b2 => hK g2 ((a2.mono (fun _ h => h.elim)).trans b1) b2) M 0 g1 (by omega) (zFe.rf _ _) (by omega) (hL.fe a2 id) (fun i hi => (hW.2 i hi).fe (by omega) a2 (fun _ _ _ _ => id) id id id id) a1
/-- the arrays behind a find, one of them -/
def zfn (fa : Nat → Nat → Int32) (ans : Nat → Nat → Int32) (nn : Int32) (old n M : Nat) : Nat → Nat → Int32 := va_up (va_up (va_up fa 24 (fun i => if i < M then ztk fa (ans i) i old n else fa 24 i)) 25 (fun u => if u / 80 < M ∧ u % 80 < n then ans (u / 80) (u % 80) else fa 25 u)) 26 (fun u => if u / 80 < M ∧ u % 80 < n ∧ (old ≤ u % 80 ∨ ¬ fa 25 u = ans (u / 80) (u % 80)) then nn else fa 26 u)
theorem zfn_a (fa : Nat → Nat → Int32) (ans : Nat → Nat → Int32) (nn : Int32) (old n M : Nat) : zka fa ans nn old n M (zfn fa ans nn old n M) := by
  refine ⟨fun j h1 h2 h3 _ _ _ _ => ?_, fun i e he => ?_, fun i e he => ?_, fun i => ?_⟩
  · unfold zfn
    rw [va_up_ne _ _ h3, va_up_ne _ _ h2, va_up_ne _ _ h1]
  · unfold zfn
    rw [va_up_ne _ _ (by decide), va_up_self, show (80 * i + e) / 80 = i by omega, show (80 * i + e) % 80 = e by omega]
  · unfold zfn
    rw [va_up_self, show (80 * i + e) / 80 = i by omega, show (80 * i + e) % 80 = e by omega]
  · unfold zfn
    rw [va_up_ne _ _ (by decide), va_up_ne _ _ (by decide), va_up_self]
theorem zPv_cl (hV : zPv fi fa lg M P np sz) (h : zcl' fi fa lg M np fi' fa') : zPv fi' fa' lg M P np sz := by
  obtain ⟨k1, k2, k3, -⟩ := h
  have i (j : Nat) (j1 : j ≠ 27) (j2 : j ≠ 29) (j3 : j ≠ 31) (j4 : j ≠ 34) (j5 : j ≠ 2) : fi' j = fi j := by
    rw [k1 j j1 j2 j3, va_up_ne _ _ j5, va_up_ne _ _ j4]
  have k (j : Nat) (j2 : j ≠ 24) (j3 : j ≠ 25) (j4 : j ≠ 26) (j5 : j ≠ 28) (j6 : j ≠ 30) (j7 : j ≠ 32) (j8 : j ≠ 33) : fa' j = fa j := k2 j j2 j3 j4 j5 j6 j7 j8
  have f7 := k 7 (by decide) (by decide) (by decide) (by decide) (by decide) (by decide) (by decide)
  have f10 := k 10 (by decide) (by decide) (by decide) (by decide) (by decide) (by decide) (by decide)
  refine hV.cg (i 1 (by decide) (by decide) (by decide) (by decide) (by decide)) (i 13 (by decide) (by decide) (by decide) (by decide) (by decide)) (i 15 (by decide) (by decide) (by decide) (by decide) (by decide)) (i 20 (by decide) (by decide) (by decide) (by decide) (by decide)) (k 0 (by decide) (by decide) (by decide) (by decide) (by decide) (by decide) (by decide)) (k 14 (by decide) (by decide) (by decide) (by decide) (by decide) (by decide) (by decide)) (k 16 (by decide) (by decide) (by decide) (by decide) (by decide) (by decide) (by decide)) (k 17 (by decide) (by decide) (by decide) (by decide) (by decide) (by decide) (by decide)) (k 18 (by decide) (by decide) (by decide) (by decide) (by decide) (by decide) (by decide)) (k 19 (by decide) (by decide) (by decide) (by decide) (by decide) (by decide) (by decide)) (k 23 (by decide) (by decide) (by decide) (by decide) (by decide) (by decide) (by decide)) ?_ hV.2.1 ?_ ?_ ?_ ?_
  · obtain ⟨q1, q2, q3, q4, q5⟩ := hV.1
    exact ⟨(i 3 (by decide) (by decide) (by decide) (by decide) (by decide)).trans q1, q2, q3, q4, fun u hu => by rw [k 12 (by decide) (by decide) (by decide) (by decide) (by decide) (by decide) (by decide)]; exact q5 u hu⟩
  · have := hV.2.2.2.2.1
    unfold zLi zri zti at this ⊢
    rw [i 5 (by decide) (by decide) (by decide) (by decide) (by decide), f7, f10]
    exact this
  · intro v hv
    rw [k 9 (by decide) (by decide) (by decide) (by decide) (by decide) (by decide) (by decide)]
    exact hV.2.2.2.2.2.1 v hv
  · intro v hv
    rw [k 6 (by decide) (by decide) (by decide) (by decide) (by decide) (by decide) (by decide), k 8 (by decide) (by decide) (by decide) (by decide) (by decide) (by decide) (by decide), k 11 (by decide) (by decide) (by decide) (by decide) (by decide) (by decide) (by decide)]
    exact hV.2.2.2.2.2.2.1 v hv
  · intro u v hu hv
    have := hV.1.2.1
    rw [k3 u v (by omega), if_pos ⟨hu, hv⟩]
    exact (congrFun (zAn_sa ⟨k1 2 (by decide) (by decide) (by decide), k1 5 (by decide) (by decide) (by decide), f7, k 8 (by decide) (by decide) (by decide) (by decide) (by decide) (by decide) (by decide), k 9 (by decide) (by decide) (by decide) (by decide) (by decide) (by decide) (by decide), f10, k 16 (by decide) (by decide) (by decide) (by decide) (by decide) (by decide) (by decide), k 17 (by decide) (by decide) (by decide) (by decide) (by decide) (by decide) (by decide), k 18 (by decide) (by decide) (by decide) (by decide) (by decide) (by decide) (by decide), k 19 (by decide) (by decide) (by decide) (by decide) (by decide) (by decide) (by decide), k 21 (by decide) (by decide) (by decide) (by decide) (by decide) (by decide) (by decide)⟩) v).symm
/-- close -/
theorem cs_close (hok : zOk X) (hV : zPv fi fa lg M P np sz) (hR : zRR X x fi fa lg M P np sz B g) (hB : B + 3000 ≤ zz X) {D : Nat} (hD : 120 ≤ D)
    (h1 : fi 2 = 0 → ∀ g' : zG, zFe zPc g g' → (∀ fi' fa', zcl' fi fa lg M np fi' fa' → zRR X x fi' fa' lg M P np sz (B + 2000) g' ∧ zPv fi' fa' lg M P np sz) → K (some (.int (zkS fa (fun i => zAn (va_up (va_up fi 34 0) 2 1) fa i (np i) lg lg.length) lg.length lg.length M))) g') (hx : fi 2 ≠ 0 → KX RJ13 (zSz g (zGz g + 7))) : zCal X D yX1_close wX1_close [.ref x] g K KX := by
  obtain ⟨d, rfl⟩ : ∃ d, D = d + 8 := ⟨D - 8, by omega⟩
  obtain ⟨ad, fo, eo, mo, c, pt, hW, hJ, hz⟩ := hR
  have hM6 := hV.2.2.1.1
  have h80 := hV.1.2.1
  have hlv := hV.1.2.2.2.1
  have w1 := hW.1.1
  have hans : ∀ i, zAn (va_up (va_up fi 34 0) 2 1) fa i (np i) lg lg.length = zAn (va_up fi 2 1) fa i (np i) lg lg.length := fun i => zAn_sa (fi := va_up fi 2 1) (fi' := va_up (va_up fi 34 0) 2 1) (fa := fa) (fa' := fa) ⟨rfl, rfl, rfl, rfl, rfl, rfl, rfl, rfl, rfl, rfl, rfl⟩
  have hcl : ¬ (va_up fi 2 1) 2 = 0 := by
    rw [va_up_self]
    decide
  refine mX1_close (d := d + 7) hok x ⟨_, _, w1, rfl, sp_allow (d := d + 1) hok (fun n1 => ⟨rfl, ⟨1, _, w1, rfl⟩, cx_openMany hok hM6 h80 hW (by omega) (by omega) (fun g1 a1 a2 => ⟨_, rfl, _, a1.1 1 (by omega) _ _ w1, by simp [zxs], fun g2 e2 => ?_⟩)⟩) (fun z => ⟨by omega, hx (fun w => by rw [if_pos w] at z; exact absurd z (by decide))⟩)⟩
  have h2 : fi 2 = 0 := by
    by_cases z : fi 2 = 0
    · exact z
    · rw [if_neg z] at n1
      exact absurd rfl n1
  have f2 : zFe (fun k => k = 1) g1 g2 := by
    rw [e2]
    exact zFe.so rfl
  have f02 : zFe (fun k => k = 1 ∨ k = 11) g g2 := (a1.mono (fun k hk => Or.inr hk)).trans (f2.mono (fun k hk => Or.inl hk))
  have x2 : zGo g2 1 x = some (zxs ad (va_up fi 2 1)) := by
    rw [e2, zSo_o, zup_s]
    rfl
  have z2' : zGz g2 = zGz g1 := by rw [e2]; rfl
  have hW2 : zWd X x ad fo eo mo c pt (va_up fi 2 1) fa lg M P np sz g2 := hW.nx hM6 f02 x2 (fun k _ h1 _ h3 => by omega) (fun k _ _ => by omega) (fun k _ _ => by omega)
  have hmul : 3 * lg.length * M ≤ 1440 := by
    have h1 : 3 * lg.length * M ≤ 3 * lg.length * 6 := Nat.mul_le_mul_left _ hM6
    omega
  refine ⟨⟨1, _, x2, rfl⟩, cx_find (old := lg.length) (fi := va_up fi 2 1) hok hM6 h80 (Nat.le_refl _) hV.2.2.2.2.1 (fun i hi => (hV.2.2.2.2.2.2.2.1 i hi).1) hJ.1 hJ.2.1 (pt := pt) (by omega) (by omega) hW2.1 hW2.2 (fun g3 pt3 b1 b2 b3 b4 => ⟨rfl, ⟨1, _, b3.1, rfl⟩, ?_⟩)⟩
  have hW3 : zWd X x ad fo eo mo c pt3 (va_up fi 2 1) (zfn fa (fun i => zAn (va_up fi 2 1) fa i (np i) lg lg.length) (nI lg.length) lg.length lg.length M) lg M P np sz g3 := ⟨b3.cg hlv ⟨rfl, rfl, rfl, rfl⟩ rfl (fun j j1 j2 v _ => by
      unfold zfn
      rw [va_up_ne _ _ (by omega), va_up_ne _ _ (by omega), va_up_ne _ _ (by omega)]) (fun j j1 j2 v _ => by
      unfold zfn
      rw [va_up_ne _ _ (by omega), va_up_ne _ _ (by omega), va_up_ne _ _ (by omega)]), fun i hi => (b4 i hi).kn (ans := fun i => zAn (va_up fi 2 1) fa i (np i) lg lg.length) (zfn_a _ _ _ _ _ _) hi h80 ⟨rfl, rfl, rfl, rfl⟩⟩
  refine cx_openMany hok hM6 h80 hW3 (by omega) (by omega) (fun g4 c1 c2 => ⟨_, rfl, ?_⟩)
  have e0 : zoM (zfn fa (fun i => zAn (va_up fi 2 1) fa i (np i) lg lg.length) (nI lg.length) lg.length lg.length M) lg.length M = 0 := zoM_0 M (fun i v hi hv => by
    rw [(zfn_a fa (fun i => zAn (va_up fi 2 1) fa i (np i) lg lg.length) (nI lg.length) lg.length lg.length M).2.1 i v (by omega), if_pos ⟨hi, hv⟩]
    exact z2_n (zAn_2 hcl _ _ _ _ _))
  rw [e0, Int32.sub_zero]
  have eS : zkS fa (fun i => zAn (va_up (va_up fi 34 0) 2 1) fa i (np i) lg lg.length) lg.length lg.length M = zoM fa lg.length M := zkS_o (fun i v => by
    show z2 (zAn (va_up (va_up fi 34 0) 2 1) fa i (np i) lg lg.length v)
    rw [hans i]
    exact zAn_2 hcl _ _ _ _ _) M
  rw [← eS]
  have fall : zFe zPc g g4 := ((f02.mono (fun k hk => by unfold zPc; omega)).trans (b1.mono (fun k hk => by unfold zPz at hk; unfold zPc; omega))).trans (c1.mono (fun k hk => by unfold zPc; omega))
  refine h1 h2 g4 fall (fun fi' fa' h => ⟨?_, zPv_cl hV h⟩)
  obtain ⟨k1, hk⟩ := h
  have k2 := hk.1
  have i0 : fi' 1 = (va_up fi 2 1) 1 ∧ fi' 2 = (va_up fi 2 1) 2 ∧ fi' 4 = (va_up fi 2 1) 4 ∧ fi' 5 = (va_up fi 2 1) 5 := ⟨k1 1 (by decide) (by decide) (by decide), k1 2 (by decide) (by decide) (by decide), k1 4 (by decide) (by decide) (by decide), k1 5 (by decide) (by decide) (by decide)⟩
  have k (j : Nat) (j2 : j ≠ 24) (j3 : j ≠ 25) (j4 : j ≠ 26) (j5 : j ≠ 28) (j6 : j ≠ 30) (j7 : j ≠ 32) (j8 : j ≠ 33) : fa' j = fa j := k2 j j2 j3 j4 j5 j6 j7 j8
  have b34 := b3.fe c1 (fun k _ _ _ _ h => h) (fun k _ _ => by omega) (by omega) (by omega)
  refine ⟨ad, fo, eo, mo, c, pt3, ⟨b34.cg hlv i0 (k 0 (by decide) (by decide) (by decide) (by decide) (by decide) (by decide) (by decide)) (fun j j1 j2 v _ => by rw [k j (by omega) (by omega) (by omega) (by omega) (by omega) (by omega) (by omega)]) (fun j j1 j2 v _ => by rw [k j (by omega) (by omega) (by omega) (by omega) (by omega) (by omega) (by omega)]), fun i hi => ?_⟩, hJ, by omega⟩
  have b44 := (b4 i hi).fe (by omega) c1 (by omega) (by omega) (by omega) (by omega) (by omega) (by omega) (by omega) (by omega) (by omega)
  rw [← hans i] at b44
  exact b44.kn (ans := fun i => zAn (va_up (va_up fi 34 0) 2 1) fa i (np i) lg lg.length) hk hi h80 i0
end CL2
