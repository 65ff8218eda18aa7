set_option maxRecDepth 100000
/-! the run's start: what holds of it -/
section STRT
variable {s : State} {args : Array Value}
theorem st_prim {ty : FieldType} (h : (Cond.arrayClass ty).before args s = true) : ∃ cA : ClassId, ArrOfT s cA ty ∧ s.vm.findClass ("[" ++ ty.toString) = some cA := by
  obtain ⟨c, k, comp, h1, h2, h3⟩ := Cond.arrayClass_spec h
  exact ⟨c, fun n z => ⟨fun k h => (by cases h), k, h2, comp, h3⟩, h1⟩
theorem st_obj {C : String} (h : (Cond.arrayOver (.object C)).before args s = true) : ∃ cA : ClassId, ArrOfT s cA (.object C) ∧ va_RA s cA (.object C) := by
  obtain ⟨comp, c, k, h1, -, h3, h4, h5⟩ := Cond.arrayOver_spec h
  exact ⟨c, fun n z => ⟨fun k h => (by cases h), k, h3, comp, h4⟩, k, comp, h3, h4, h1, h5⟩
theorem st_arr {t : FieldType} (h : (Cond.arrayOver (.array t)).before args s = true) : ∃ cA : ClassId, ArrOfT s cA (.array t) ∧ va_RA s cA (.array t) := by
  obtain ⟨comp, c, k, h1, h2, h3, h4⟩ := Cond.arrayOver_specA h
  exact ⟨c, fun n z => ⟨fun k h => (by cases h), k, h2, comp, h3⟩, h4⟩
/-- classes and arrays -/
theorem st_K (ht : ∀ w ∈ lw_tbl, w.before args s = true) : ∃ (D : va_G) (cA : Nat → ClassId), va_K D zcl [(cA 0, .int), (cA 1, .boolean), (cA 2, .long), (cA 3, .object "java/lang/Object"), (cA 4, .array .int)] s := by
  have hts : ∀ w ∈ lw_all, w.before args s = true := fun w h => ht w (lw_all_tbl h)
  obtain ⟨c0, i0, k0⟩ := u_known (C := RJ2) (T := TJ2) (N := 3) (n := 3) hts in_J2 (hts _ q119)
  obtain ⟨c1, i1, k1⟩ := u_known (C := RX1) (T := TX1) (N := 12) (n := 12) hts in_X1 (hts _ q111)
  obtain ⟨c2, i2, k2⟩ := u_known (C := RX2) (T := TX2) (N := 5) (n := 5) hts in_X2 (hts _ q149)
  obtain ⟨c3, i3, k3⟩ := u_known (C := RX3) (T := TX3) (N := 35) (n := 35) hts in_X3 (hts _ q1632)
  obtain ⟨c4, i4, k4⟩ := u_known (C := RX4) (T := TX4) (N := 7) (n := 7) hts in_X4 (hts _ q777)
  obtain ⟨c5, i5, k5⟩ := u_known (C := RX5) (T := TX5) (N := 2) (n := 2) hts in_X5 (hts _ q1074)
  obtain ⟨c6, i6, k6⟩ := u_known (C := RX6) (T := TX6) (N := 2) (n := 2) hts in_X6 (hts _ q1136)
  obtain ⟨c7, i7, k7⟩ := u_known (C := RX7) (T := TX7) (N := 7) (n := 7) hts in_X7 (hts _ q1241)
  obtain ⟨c8, i8, k8⟩ := u_known (C := RX8) (T := TX8) (N := 8) (n := 8) hts in_X8 (hts _ q1128)
  obtain ⟨c9, i9, k9⟩ := u_known (C := RX9) (T := TX9) (N := 4) (n := 4) hts in_X9 (hts _ q477)
  obtain ⟨c10, i10, k10⟩ := u_known (C := RX10) (T := TX10) (N := 7) (n := 7) hts in_X10 (hts _ q410)
  obtain ⟨c11, i11, k11⟩ := u_known (C := RJ22) (T := TJ22) (N := 4) (n := 4) hts in_J22 (hts _ q334)
  obtain ⟨c12, i12, k12⟩ := u_known (C := RJ9) (T := TJ9) (N := 0) (n := 6) hts (fun w h => by cases h) (hts _ q708)
  obtain ⟨c13, i13, k13⟩ := u_known (C := RJ12) (T := TJ12) (N := 0) (n := 6) hts (fun w h => by cases h) (hts _ q724)
  obtain ⟨c14, i14, k14⟩ := u_known (C := RJ13) (T := TJ13) (N := 0) (n := 6) hts (fun w h => by cases h) (hts _ q762)
  obtain ⟨a0, b0, e0⟩ := st_prim (hts _ q147)
  obtain ⟨a1, b1, e1⟩ := st_prim (hts _ q1743)
  obtain ⟨a2, b2, e2⟩ := st_prim (hts _ q2142)
  obtain ⟨a3, b3, e3⟩ := st_obj (ht _ q233)
  obtain ⟨a4, b4, e4⟩ := st_arr (ht _ q1418)
  refine ⟨(fun k => if k = 0 then c0 else if k = 1 then c1 else if k = 2 then c2 else if k = 3 then c3 else if k = 4 then c4 else if k = 5 then c5 else if k = 6 then c6 else if k = 7 then c7 else if k = 8 then c8 else if k = 9 then c9 else if k = 10 then c10 else if k = 11 then c11 else if k = 12 then c12 else if k = 13 then c13 else c14,
    fun k => if k = 0 then i0 else if k = 1 then i1 else if k = 2 then i2 else if k = 3 then i3 else if k = 4 then i4 else if k = 5 then i5 else if k = 6 then i6 else if k = 7 then i7 else if k = 8 then i8 else if k = 9 then i9 else if k = 10 then i10 else if k = 11 then i11 else if k = 12 then i12 else if k = 13 then i13 else i14),
    fun k => if k = 0 then a0 else if k = 1 then a1 else if k = 2 then a2 else if k = 3 then a3 else a4, fun k q hq => ?_, fun k q hq => ?_⟩
  · match k, hq with
    | 0, hq => cases hq; exact k0
    | 1, hq => cases hq; exact k1
    | 2, hq => cases hq; exact k2
    | 3, hq => cases hq; exact k3
    | 4, hq => cases hq; exact k4
    | 5, hq => cases hq; exact k5
    | 6, hq => cases hq; exact k6
    | 7, hq => cases hq; exact k7
    | 8, hq => cases hq; exact k8
    | 9, hq => cases hq; exact k9
    | 10, hq => cases hq; exact k10
    | 11, hq => cases hq; exact k11
    | 12, hq => cases hq; exact k12
    | 13, hq => cases hq; exact k13
    | 14, hq => cases hq; exact k14
    | k + 15, hq => exact absurd hq (by simp)
  · match k, hq with
    | 0, hq => cases hq; exact ⟨b0, e0⟩
    | 1, hq => cases hq; exact ⟨b1, e1⟩
    | 2, hq => cases hq; exact ⟨b2, e2⟩
    | 3, hq => cases hq; exact ⟨b3, e3⟩
    | 4, hq => cases hq; exact ⟨b4, e4⟩
    | k + 5, hq => exact absurd hq (by simp)
end STRT
