set_option maxRecDepth 100000
section STRU
variable {s : State} {b : Nat}
/-- what the Statement gives of the start -/
abbrev stG (b : Nat) (s : State) : Prop := (Jvm.Cond.and given_1 narrow_1).before #[Value.ref b] s = true
abbrev stA (s : State) : Nat → Prop := fun q => s.heap.size ≤ q
theorem stA_n (s : State) : ∀ a : Nat, a < s.heap.size → ¬ stA s a := fun _ h z => absurd h (Nat.not_lt.mpr z)
theorem st_nc (h : stG b s) : va_Nc RJ12 RJ9 s ∧ va_Nc RJ13 RJ9 s ∧ va_Nc RJ13 RJ12 s := by
  have hs := flat_of_before _ h
  exact ⟨va_Nc.of (hs (.not (.castable RJ12 RJ9)) (by decide +kernel)), va_Nc.of (hs (.not (.castable RJ13 RJ9)) (by decide +kernel)), va_Nc.of (hs (.not (.castable RJ13 RJ12)) (by decide +kernel))⟩
theorem st_mi (h : stG b s) : (∃ m1 : Nat, va_Mi "java/util/ArrayList" m1 s) ∧ ∃ m2 : Nat, va_Mi "[Ljava/lang/Object;" m2 s := by
  have hs := flat_of_before _ h
  exact ⟨va_Mi.of (hs (.isRef (.mirror "java/util/ArrayList")) (by decide +kernel)), va_Mi.of (hs (.isRef (.mirror "[Ljava/lang/Object;")) (by decide +kernel))⟩
theorem st_str (h : stG b s) (ht : ∀ w ∈ lw_tbl, w.before #[Value.ref b] s = true) : (∃ a : Nat, vk_R "LogGrammar" 287 "not there" a s) ∧ (∃ a : Nat, vk_R "LogGrammar" 294 "out of range" a s) ∧ ∃ a : Nat, vk_R "LogGrammar" 299 "not possible" a s := by
  have hs := flat_of_before _ h
  refine ⟨?_, ?_, ?_⟩
  · obtain ⟨a, c, cell, k, q1, -⟩ := Cond.exactly_spec (hs (.exactly (.string "LogGrammar" 287) "java/lang/String") (by decide +kernel))
    exact ⟨a, vk_R.of (ht _ q716) q1⟩
  · obtain ⟨a, c, cell, k, q1, -⟩ := Cond.exactly_spec (hs (.exactly (.string "LogGrammar" 294) "java/lang/String") (by decide +kernel))
    exact ⟨a, vk_R.of (ht _ q732) q1⟩
  · obtain ⟨a, c, cell, k, q1, -⟩ := Cond.exactly_spec (hs (.exactly (.string "LogGrammar" 299) "java/lang/String") (by decide +kernel))
    exact ⟨a, vk_R.of (ht _ q770) q1⟩
theorem st_thr (h : stG b s) (ht : ∀ w ∈ lw_tbl, w.before #[Value.ref b] s = true) : vx_Zq Bundle.tN "UNASSIGNED_STACK" Bundle.steD (stA s) s s.heap ∧ vx_Zq Bundle.tN "SUPPRESSED_SENTINEL" Bundle.listD (stA s) s s.heap := by
  have hs := flat_of_before _ h
  exact ⟨vx_Zqof (ht _ q634) (ht _ (lw_all_tbl q83)) (hs (.isRef (.static "java/lang/Throwable" "UNASSIGNED_STACK" "[Ljava/lang/StackTraceElement;")) (by decide +kernel)) (stA_n s), vx_Zqof (ht _ q636) (ht _ (lw_all_tbl q83)) (hs (.isRef (.static "java/lang/Throwable" "SUPPRESSED_SENTINEL" "Ljava/util/List;")) (by decide +kernel)) (stA_n s)⟩
theorem st_emp (h : stG b s) (ht : ∀ w ∈ lw_tbl, w.before #[Value.ref b] s = true) : ∃ e1 e2 : Nat, (va_Z "java/util/ArrayList" "EMPTY_ELEMENTDATA" "[Ljava/lang/Object;" (.ref e1) (stA s) s s.heap ∧ va_T (.object "java/lang/Object") e1 0 (fun _ => .null) (stA s) s s.heap) ∧
    (va_Z "java/util/ArrayList" "DEFAULTCAPACITY_EMPTY_ELEMENTDATA" "[Ljava/lang/Object;" (.ref e2) (stA s) s s.heap ∧ va_T (.object "java/lang/Object") e2 0 (fun _ => .null) (stA s) s s.heap) ∧ e1 ≠ e2 ∧ va_O "[Ljava/lang/Object;" e1 (stA s) s s.heap ∧ va_O "[Ljava/lang/Object;" e2 (stA s) s s.heap := by
  have hs := flat_of_before _ h
  obtain ⟨e1, v1, t1⟩ := va_Tof (f := fun _ => .null) (A := stA s) (N := 0) (by decide) (hs (.arrayOf (.static "java/util/ArrayList" "EMPTY_ELEMENTDATA" "[Ljava/lang/Object;") (.object "java/lang/Object")) (by decide +kernel)) (va_eqt (hs (.eq (.length (.static "java/util/ArrayList" "EMPTY_ELEMENTDATA" "[Ljava/lang/Object;")) (.int 0)) (by decide +kernel))) (fun j hj => absurd hj (Nat.not_lt_zero j)) (stA_n s)
  obtain ⟨e2, v2, t2⟩ := va_Tof (f := fun _ => .null) (A := stA s) (N := 0) (by decide) (hs (.arrayOf (.static "java/util/ArrayList" "DEFAULTCAPACITY_EMPTY_ELEMENTDATA" "[Ljava/lang/Object;") (.object "java/lang/Object")) (by decide +kernel)) (va_eqt (hs (.eq (.length (.static "java/util/ArrayList" "DEFAULTCAPACITY_EMPTY_ELEMENTDATA" "[Ljava/lang/Object;")) (.int 0)) (by decide +kernel))) (fun j hj => absurd hj (Nat.not_lt_zero j)) (stA_n s)
  refine ⟨e1, e2, ⟨va_Zref (ht _ q1217) (ht _ (lw_all_tbl q76)) v1 (stA_n s), t1⟩, ⟨va_Zref (ht _ q131) (ht _ (lw_all_tbl q76)) v2 (stA_n s), t2⟩, fun e => ?_, ?_, ?_⟩
  · exact va_neR (hs (.not (.eq (.static "java/util/ArrayList" "DEFAULTCAPACITY_EMPTY_ELEMENTDATA" "[Ljava/lang/Object;") (.static "java/util/ArrayList" "EMPTY_ELEMENTDATA" "[Ljava/lang/Object;"))) (by decide +kernel)) v2 v1 e.symm
  · exact va_Oof (hs (.exactly (.static "java/util/ArrayList" "EMPTY_ELEMENTDATA" "[Ljava/lang/Object;") "[Ljava/lang/Object;") (by decide +kernel)) v1 (stA_n s)
  · exact va_Oof (hs (.exactly (.static "java/util/ArrayList" "DEFAULTCAPACITY_EMPTY_ELEMENTDATA" "[Ljava/lang/Object;") "[Ljava/lang/Object;") (by decide +kernel)) v2 (stA_n s)
theorem st_int (h : stG b s) (ht : ∀ w ∈ lw_tbl, w.before #[Value.ref b] s = true) : ∃ nf : Nat → Nat, vb_C nf (stA s) s s.heap ∧ (∃ t : Nat, va_Z "java/lang/Integer$IntegerCache" "cache" "[Ljava/lang/Integer;" (.ref t) (stA s) s s.heap ∧ va_T (.object "java/lang/Integer") t 256 (fun j => .ref (nf j)) (stA s) s s.heap) ∧ va_Z "java/lang/Integer$IntegerCache" "high" "I" (.int 127) (stA s) s s.heap := by
  have hs := flat_of_before _ h
  have hlen := va_eqt (hs (.eq (.length (.static "java/lang/Integer$IntegerCache" "cache" "[Ljava/lang/Integer;")) (.int 256)) (by decide +kernel))
  obtain ⟨nf, h1, h2⟩ := vb_Cof (A := stA s) (st := .static "java/lang/Integer$IntegerCache" "cache" "[Ljava/lang/Integer;") rfl hlen (hs _ (by decide +kernel)) (stA_n s)
  obtain ⟨t, v1, t1⟩ := va_Tof (f := fun j => .ref (nf j)) (A := stA s) (N := 256) (by decide) (hs (.arrayOf (.static "java/lang/Integer$IntegerCache" "cache" "[Ljava/lang/Integer;") (.object "java/lang/Integer")) (by decide +kernel)) hlen h2 (stA_n s)
  exact ⟨nf, h1, ⟨t, va_Zref (ht _ q1143) (ht _ (lw_all_tbl q105)) v1 (stA_n s), t1⟩, va_Zof (ht _ q1141) (ht _ (lw_all_tbl q105)) (va_eqt (hs (.eq (.static "java/lang/Integer$IntegerCache" "high" "I") (.int 127)) (by decide +kernel))) (stA_n s)⟩
end STRU
