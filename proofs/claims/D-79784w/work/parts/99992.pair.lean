set_option maxRecDepth 100000
/-! PAIRS: the class's call, then the model's, of the same method -/
section SJ
variable {X : zX} {x : Nat} {fi : Nat → Int32} {fa : Nat → Nat → Int32} {lg : List Nat} {M P : Nat} {np sz : Nat → Nat} {B : Nat} {g g' : zG}
theorem zTr.sj {kd : Nat} {c : Nat → Nat × Nat × Nat} {t o n : Nat} {f : Nat → Int64} : ∀ (h a lo hi : Nat) (E : List (Nat × Int32)), zTr kd c g h a lo hi E → zTr kd c (zSj g t o n f) h a lo hi E
  | 0, a, lo, hi, E, h => h
  | k + 1, a, lo, hi, E, ⟨lw, up, h1, h2, h3⟩ => by
    refine ⟨lw, up, h1, h2, fun h => ?_⟩
    obtain ⟨h4, h5⟩ := h3 h
    refine ⟨?_, ?_⟩
    · cases lw with
      | none => exact h4
      | some b => exact zTr.sj k b _ _ _ h4
    · cases up with
      | none => exact h5
      | some b => exact zTr.sj k b _ _ _ h5
theorem zRR.sj (h : zRR X x fi fa lg M P np sz B g) (t o n : Nat) (f : Nat → Int64) : zRR X x fi fa lg M P np sz B (zSj g t o n f) := by
  obtain ⟨ad, fo, eo, mo, c, pt, ⟨⟨b1, b2, b3, b4, ⟨l, l1, l2, l3⟩, b6, b7, b8, b9, b10⟩, wm⟩, h2, h3⟩ := h
  exact ⟨ad, fo, eo, mo, c, pt, ⟨⟨b1, b2, b3, b4, ⟨l, l1, l2, fun kd hkd => zTr.sj _ _ _ _ _ (l3 kd hkd)⟩, b6, b7, b8, b9, b10⟩, fun i hi => wm i hi⟩, h2, h3⟩
end SJ
/-- the law's long array -/
def zOut (o : Nat) (g : zG) : Prop := ∃ f : Nat → Int64, zGj g 0 o = some (1, f)
/-- written, or not -/
def zOuw (o : Nat) (g g' : zG) : Prop := g' = g ∨ ∃ f : Nat → Int64, g' = zSj g 0 o 1 f
/-- class and model agree, k calls done, the last one's code -/
def zIw (X : zX) (x m b0 k : Nat) (cd : Int32) (g : zG) : Prop := ∃ (fi : Nat → Int32) (fa : Nat → Nat → Int32) (adm : Nat → Nat) (lg : List Nat) (M P : Nat) (np sz : Nat → Nat), fi 34 = cd ∧ zRR X x fi fa lg M P np sz (b0 + 15000 * k) g ∧ zMd g m fi adm fa ∧ zPv fi fa lg M P np sz ∧ zno fa lg
/-- the model's answer -/
def zKM (X : zX) (x m : Nat) (adm : Nat → Nat) (b0 k : Nat) (cd v : Int32) (g1 g1' : zG) : Option Value → zG → Prop := fun r g2 => ∃ b : Int32, r = some (.int b) ∧ (cd = 0 → b = v) ∧ ∃ (fi : Nat → Int32) (fa : Nat → Nat → Int32) (lg : List Nat) (M P : Nat) (np sz : Nat → Nat), fi 34 = cd ∧ zNm g1' g2 ∧ zMd g2 m fi adm fa ∧ zRR X x fi fa lg M P np sz (b0 + 15000 * (k + 1)) g1 ∧ zPv fi fa lg M P np sz ∧ zno fa lg
/-- behind the class's answer: the model gives the same -/
def zPar (X : zX) (x m o b0 k : Nat) (y : MethodName) (w : List Cond) (as : List Value) (D : Nat) (KX : String → zG → Prop) (cd v : Int32) (g1 : zG) : Prop := zOut o g1 ∧ zIs g1 3 m ∧ ∀ g1' : zG, zOuw o g1 g1' → zCal X D y w (.ref m :: as) g1' (fun r g2 => ∃ b : Int32, r = some (.int b) ∧ (cd = 0 → b = v) ∧ zIw X x m b0 (k + 1) cd g2 ∧ zGj g2 = zGj g1') KX
/-- a pair of calls -/
def zPair (X : zX) (x m o b0 k : Nat) (yc : MethodName) (wc : List Cond) (y : MethodName) (w : List Cond) (as : List Value) (D Dm : Nat) (g : zG) (hs : List (String × Int32)) (KX : String → zG → Prop) : Prop :=
  zCal X D yc wc (.ref x :: as) g (fun r g1 => ∃ v : Int32, r = some (.int v) ∧ zPar X x m o b0 k y w as Dm KX 0 v g1) (fun s g1 => ∃ cd : Int32, (s, cd) ∈ hs ∧ zPar X x m o b0 k y w as Dm KX cd 0 g1)
section PAIR
variable {X : zX} {x m o b0 k D d : Nat} {adm : Nat → Nat} {fi fi' : Nat → Int32} {fa fa' : Nat → Nat → Int32} {lg : List Nat} {M P : Nat} {np sz : Nat → Nat} {B : Nat} {g g1 g1' g2 : zG} {KX : String → zG → Prop}
theorem zPar.mk {y : MethodName} {w : List Cond} {as : List Value} {cd v : Int32} (hO : zOut o g) (e : zFe zPc g g1) (hM : zMd g m fi adm fa) (h : ∀ g1' : zG, zMd g1' m fi adm fa → zCal X D y w (.ref m :: as) g1' (zKM X x m adm b0 k cd v g1 g1') KX) : zPar X x m o b0 k y w as D KX cd v g1 := by
  refine ⟨?_, (hM.fc e).is, fun g1' hu => ?_⟩
  · obtain ⟨f, hf⟩ := hO
    exact ⟨f, by rw [e.2.2.2]; exact hf⟩
  · have hM1 := hM.fc e
    refine (h g1' ?_).mono ?_ (fun _ _ h => h)
    · rcases hu with rfl | ⟨f, rfl⟩
      · exact hM1
      · exact hM1
    · rintro r g2 ⟨b, rb, hb, fi', fa', lg, M, P, np, sz, h34, a1, a2, hR, hV, hno⟩
      refine ⟨b, rb, hb, ⟨fi', fa', adm, lg, M, P, np, sz, h34, ?_, a2, hV, hno⟩, a1.2.2.2.1⟩
      have hR' : zRR X x fi' fa' lg M P np sz (b0 + 15000 * (k + 1)) g1' := by
        rcases hu with rfl | ⟨f, rfl⟩
        · exact hR
        · exact hR.sj _ _ _ _
      exact hR'.fe hV.2.2.1.1 a1.fe (by rw [a1.2.2.2.2]; exact Nat.le_refl _)
/-- a question's end: only scratch has changed -/
theorem zKM.q {cd v b : Int32} (hR : zRR X x fi fa lg M P np sz B g1) (hB : B ≤ b0 + 15000 * (k + 1)) (hV : zPv fi fa lg M P np sz) (hno : zno fa lg) (q : zQs fi fa fi' fa') (h34 : fi' 34 = cd) (a2 : zNm g1' g2) (a1 : zMd g2 m fi' adm fa') (hb : cd = 0 → b = v) : zKM X x m adm b0 k cd v g1 g1' (some (.int b)) g2 := by
  refine ⟨b, rfl, hb, fi', fa', lg, M, P, np, sz, h34, a2, a1, (hR.ag hV.1.2.2.2.1 (q.ag _ _ _ _ _)).mono hB, hV.qs q, zno_cg hno (fun v _ => ?_) (fun v _ => ?_)⟩
  · rw [q.2 7 (by decide) (by decide) (by decide) (by decide)]
  · rw [q.2 6 (by decide) (by decide) (by decide) (by decide)]
theorem zKM.q34 {cd v b : Int32} (hR : zRR X x fi fa lg M P np sz B g1) (hB : B ≤ b0 + 15000 * (k + 1)) (hV : zPv fi fa lg M P np sz) (hno : zno fa lg) (a2 : zNm g1' g2) (a1 : zMd g2 m (va_up fi 34 cd) adm fa) (hb : cd = 0 → b = v) : zKM X x m adm b0 k cd v g1 g1' (some (.int b)) g2 :=
  zKM.q hR hB hV hno (zQs.f34 fi fa cd) (if_pos rfl) a2 a1 hb
/-- an exception's end -/
theorem zKM.ex {cd v b : Int32} (hR : zRR X x fi fa lg M P np sz (b0 + 15000 * k) g) (hV : zPv fi fa lg M P np sz) (hno : zno fa lg) (a2 : zNm g1' g2) (a1 : zMd g2 m (va_up fi 34 cd) adm fa) (hc : cd ≠ 0) : zKM X x m adm b0 k cd v (zSz g (zGz g + 7)) g1' (some (.int b)) g2 :=
  zKM.q34 (hR.up hV.2.2.1.1 7) (by omega) hV hno a2 a1 (fun z => absurd z hc)
theorem nI_ij {i j n : Nat} (hi : i < n) (hj : j < n) (hn : n < 2 ^ 30) (e : nI i = nI j) : i = j := (nI_eq (by omega) (by omega)).mp e
variable {v w u q : Int32}
theorem pr_eventAt (hok : zOk X) (hb : b0 + 15000 * 64 + 20000 ≤ zz X) (hk : k < 64) (hD : 400 ≤ D) (hO : zOut o g) {cd0 : Int32} (I : zIw X x m b0 k cd0 g) : zPair X x m o b0 k yX1_eventAt wX1_eventAt yX3_eventAt wX3_eventAt [.int v] D (D + 1) g [(RJ9, 1)] KX := by
  obtain ⟨d, rfl⟩ : ∃ d, D = d + 8 := ⟨D - 8, by omega⟩
  obtain ⟨fi, fa, adm, lg, M, P, np, sz, -, hR, hM, hV, hno⟩ := I
  have h80 := hV.1.2.1
  refine cs_eventAt hok hV hR (by omega) (by omega) (fun j hj ej => ⟨_, rfl, zPar.mk hO (zFe.rf _ _) hM (fun g1' hM' => ?_)⟩) (fun z => ⟨1, List.mem_cons_self, zPar.mk hO (zFe.sz _) hM (fun g1' hM' => ?_)⟩)
  · refine mp_eventAt (d := d + 7) hok hM' h80 hV.1.1 (fun j' hj' ej' g2 a1 a2 => ?_) (fun z => absurd z (by rw [ej]; exact zIn_in hj (by omega)))
    obtain rfl := nI_ij hj hj' (by omega) (ej.symm.trans ej')
    exact zKM.q34 hR (by omega) hV hno a2 a1 (fun _ => rfl)
  · exact mp_eventAt (d := d + 7) hok hM' h80 hV.1.1 (fun j' hj' ej' => absurd z (by rw [ej']; exact zIn_in hj' (by omega))) (fun _ g2 a1 a2 => zKM.ex hR hV hno a2 a1 (by decide))
end PAIR
