set_option maxRecDepth 100000
section ZMAC
variable {X : zX} {d : Nat} {E : zM} {own : String} {cc : ByteArray} {nL : Nat} {ret : Option FieldType} {nm : String} {g : zG} {H : Heap} {locs : List Loc} {ls : Array Slot} {pc : Nat} {rest st0 : List Value} {lc : List (Nat × Value)} {K : Option Value → zG → Prop} {KX : String → zG → Prop}
theorem z_callVr (C : zC X (d + 1) E own cc nL ret nm) (hR : zRep X g H) (hS : va_S (zA X) (zS E).heap H locs) (hl : lv_has ls nL lc) {C1 : String} {index maxL n b : Nat} {y : MethodName} {bytes : ByteArray} {rt : Option FieldType} {As : List Value}
    (hb : ∃ cell : Cell, H[b]? = some cell ∧ cell.vm.isStatics = false ∧ (zS E).vm.findClass C1 = some cell.cls) (hw : GoodIn lw_all (wsV own index C1 y (ws_ y bytes maxL rt))) (hd : y.cls = C1 ∧ y.cls ≠ "java/lang/invoke/MethodHandle" ∧ y.cls ≠ "java/lang/invoke/VarHandle" ∧ (parseMethodDescriptor y.desc).map (fun d => d.parameters.length) = some n) (hL : maxL ≤ 45) (hn : As.length = n)
    (hst : st0 = As.reverse ++ .ref b :: rest) (hcat : (rest.map fun v => v.category).sum ≤ 8) (hdg : decode cc pc = .ok (.invokevirtual index, 3))
    (hcal : zCal X d y (ws_ y bytes maxL rt) (.ref b :: As) g K KX) (hk : ∀ r g', K r g' → GW X E nL g' (pc + 3) lc (r.toList ++ rest)) (hx : ∀ x g', KX x g' → GX X E nL g' pc lc x) : zV X E H locs (F0 (zm E) pc ls st0) := by
  refine zV.bound fun b1 b2 => ?_
  obtain ⟨p1, p2⟩ := z_pre C hR (.ref b :: As)
  have hM := hcal (H.size + zsl H) (Nat.le_trans hR.2.1.1 hR.2.1.2)
  have cw := cwV (R := zR E) n C.ts hw rfl (hrc := rfl) (hrs := rfl) hd (z_rm (c1 := zz X - (H.size + zsl H)) (s1 := zz X - (H.size + zsl H)) C hL)
  exact z_run C hS hl (vx_runV (As := As) (rest := rest) ⟨C.x, C.b, C.ml, C.ow, C.ts⟩ hM cw ⟨p1, hb, p2⟩ rfl hn hl.1 hst (lv_room hcat) hdg (z_fit C hR b1 b2)) hk hx
abbrev wJ21_intValue : List Cond := ws_ yJ21_intValue cJ21_intValue 1 (some .int)
theorem sp_intValue (hok : zOk X) {k : Nat} (hk : k < 256) (h : K (some (.int (vb_c k))) g) : zCal X d yJ21_intValue wJ21_intValue [.ref (zN X k)] g K KX := by
  refine z_enter hok (by decide +kernel) (Nat.le_of_ble_eq_true rfl) (fun E C hQ => ?_)
  have C : zC X d E RJ21 cJ21_intValue 1 (some .int) "intValue" := C
  show GW X E 1 g 0 [(0, .ref (zN X k))] []
  intro H locs ls hR hS hl
  refine lv_aload_n C.x C.b dJ21_intValue_0 rfl (lv_at hl 0 rfl) ?_
  refine va_getX (o := "java/lang/Integer") (i := k) (v := fun k => .int (vb_c k)) C.x C.b C.st.2.1.2 hk hS C.ow (C.ts _ q1152) (fun _ h => h) dJ21_intValue_1 ?_
  exact z_iret C hQ dJ21_intValue_4 h H locs ls hR hS hl
theorem hdV_J21_intValue : yJ21_intValue.cls = RJ21 ∧ yJ21_intValue.cls ≠ "java/lang/invoke/MethodHandle" ∧ yJ21_intValue.cls ≠ "java/lang/invoke/VarHandle" ∧ (parseMethodDescriptor yJ21_intValue.desc).map (fun d => d.parameters.length) = some 0 := by decide +kernel
/-- Integer.intValue of a small Integer -/
theorem z_intValue (C : zC X (d + 1) E own cc nL ret nm) (hR : zRep X g H) (hS : va_S (zA X) (zS E).heap H locs) (hl : lv_has ls nL lc) {index k : Nat} (hk : k < 256) (hlk : Cond.methodLink own index yJ21_intValue ∈ lw_all) (hcat : (rest.map fun v => v.category).sum ≤ 8) (hdg : decode cc pc = .ok (.invokevirtual index, 3))
    (kk : GW X E nL g (pc + 3) lc (.int (vb_c k) :: rest)) : zV X E H locs (F0 (zm E) pc ls (.ref (zN X k) :: rest)) := by
  refine z_callVr C hR hS hl (y := yJ21_intValue) (bytes := cJ21_intValue) (maxL := 1) (rt := some .int) (n := 0) (As := []) (rest := rest) (C1 := RJ21) (K := fun r g1 => r = some (.int (vb_c k)) ∧ g1 = g) (KX := fun _ _ => False) ?_ (lw_V hlk q567 q568 q99 q569) hdV_J21_intValue (by decide) rfl rfl hcat hdg (sp_intValue C.ok hk ⟨rfl, rfl⟩) (fun r g1 h => ?_) (fun x g1 h => h.elim)
  · obtain ⟨cell, h1, h2, h3, h4⟩ := (C.st.2.1.1 k hk).kept hS.2.1
    exact ⟨cell, h1, h2, h3⟩
  · obtain ⟨rfl, rfl⟩ := h
    exact kk
abbrev wJ21_valueOf : List Cond := ws_ yJ21_valueOf cJ21_valueOf 1 (some (.object "java/lang/Integer"))
/-- Integer.valueOf of a small int -/
theorem sp_valueOf (hok : zOk X) {x : Int32} (h1 : ¬ x < -128) (h2 : ¬ 127 < x) (hin : vp_in (x + 128) 256) (h : K (some (.ref (zN X (x + 128).toNatClampNeg))) g) : zCal X d yJ21_valueOf wJ21_valueOf [.int x] g K KX := by
  refine z_enter hok (by decide +kernel) (Nat.le_of_ble_eq_true rfl) (fun E C hQ => ?_)
  have C : zC X d E RJ21 cJ21_valueOf 1 (some (.object "java/lang/Integer")) "valueOf" := C
  show GW X E 1 g 0 [(0, .int x)] []
  intro H locs ls hR hS hl
  obtain ⟨t, hc1, hc2⟩ := C.st.2.2.1
  refine lv_iload_n C.x C.b dJ21_valueOf_0 rfl (lv_at hl 0 rfl) ?_
  refine lv_bipush (v := (-128)) C.x C.b dJ21_valueOf_1 (by decide) ?_
  refine lv_icmp_lt (tgt := 23) C.x C.b dJ21_valueOf_3 (by decide) (fun c => absurd c h1) (fun c => ?_)
  refine lv_iload_n C.x C.b dJ21_valueOf_6 rfl (lv_at hl 0 rfl) ?_
  refine va_gets C.x C.b C.st.2.2.2.1 hS C.ow (C.ts _ q1140) (fun _ h => h) dJ21_valueOf_7 ?_
  refine lv_icmp_gt (tgt := 23) C.x C.b dJ21_valueOf_10 (by decide) (fun c => absurd c h2) (fun c => ?_)
  refine va_gets C.x C.b hc1 hS C.ow (C.ts _ q1142) (fun _ h => h) dJ21_valueOf_13 ?_
  refine lv_iload_n C.x C.b dJ21_valueOf_16 rfl (lv_at hl 0 rfl) ?_
  refine lv_sipush (v := 128) C.x C.b dJ21_valueOf_17 (by decide) ?_
  refine lv_iadd C.x C.b dJ21_valueOf_20 ?_
  refine vb_tq C.x C.b hc2 hS hin rfl dJ21_valueOf_21 ?_
  exact z_aret C hQ (Or.inl ⟨_, rfl⟩) (Or.inr ⟨_, rfl⟩) dJ21_valueOf_22 h H locs ls hR hS hl
abbrev wJ23_ordinal : List Cond := ws_ yJ23_ordinal cJ23_ordinal 1 (some .int)
theorem zor_at : ∀ k, k < 12 → zor.2.2.2.getD k 0 = nI k := by decide
theorem sp_ordinal (hok : zOk X) {k : Nat} (hk : k < 12) (h : K (some (.int (nI k))) g) : zCal X d yJ23_ordinal wJ23_ordinal [.ref (zE X k)] g K KX := by
  refine z_enter hok (by decide +kernel) (Nat.le_of_ble_eq_true rfl) (fun E C hQ => ?_)
  have C : zC X d E RJ23 cJ23_ordinal 1 (some .int) "ordinal" := C
  show GW X E 1 g 0 [(0, .ref (zE X k))] []
  intro H locs ls hR hS hl
  refine lv_aload_n C.x C.b dJ23_ordinal_0 rfl (lv_at hl 0 rfl) ?_
  refine va_getE C.x C.b C.st.1 (show k < znm.length from hk) hS C.ow (q := zor) (List.mem_singleton.mpr rfl) (C.ts _ q2184) (fun _ h => h) dJ23_ordinal_1 ?_
  rw [zor_at k hk]
  exact z_iret C hQ dJ23_ordinal_4 h H locs ls hR hS hl
abbrev zoN : MethodName := ⟨"LogGrammar$Sort", "ordinal", "()I"⟩
theorem z_ordinal (C : zC X (d + 1) E own cc nL ret nm) (hR : zRep X g H) (hS : va_S (zA X) (zS E).heap H locs) (hl : lv_has ls nL lc) {index k : Nat} (hk : k < 12) (hlk : Cond.methodLink own index zoN ∈ lw_all) (hcat : (rest.map fun v => v.category).sum ≤ 8) (hdg : decode cc pc = .ok (.invokevirtual index, 3))
    (kk : GW X E nL g (pc + 3) lc (.int (nI k) :: rest)) : zV X E H locs (F0 (zm E) pc ls (.ref (zE X k) :: rest)) := by
  refine z_callU C hR hS hl (x := zoN) (y := yJ23_ordinal) (bytes := cJ23_ordinal) (maxL := 1) (rt := some .int) (n := 0) (As := []) (rest := rest) (C1 := "LogGrammar$Sort") (owner := "java/lang/Enum") (K := fun r g1 => r = some (.int (nI k)) ∧ g1 = g) (KX := fun _ _ => False) (va_recvE C.st.1 (show k < znm.length from hk) hS) (lw_U hlk q480 q482 q483 q102 q484) rfl (by decide +kernel) (by decide) rfl rfl hcat hdg (sp_ordinal C.ok hk ⟨rfl, rfl⟩) (fun r g1 h => ?_) (fun x g1 h => h.elim)
  obtain ⟨rfl, rfl⟩ := h
  exact kk
abbrev wJ24_equals : List Cond := ws_ yJ24_equals cJ24_equals 2 (some .boolean)
/-- Object.equals of an Event: the same object -/
theorem z_equals (C : zC X (d + 1) E RJ2 cc nL ret nm) (hR : zRep X g H) (hS : va_S (zA X) (zS E).heap H locs) (hl : lv_has ls nL lc) {b : Nat} {v : Value} (hb : zIs g 4 b) (hcat : (rest.map fun v => v.category).sum ≤ 8) (hdg : decode cc pc = .ok (.invokevirtual 93, 3))
    (hcal : zCal X d yJ24_equals wJ24_equals [.ref b, v] g K KX) (hk : ∀ r g', K r g' → GW X E nL g' (pc + 3) lc (r.toList ++ rest)) (hx : ∀ x g', KX x g' → GX X E nL g' pc lc x) : zV X E H locs (F0 (zm E) pc ls (v :: .ref b :: rest)) :=
  z_callU C hR hS hl (x := yJ24_equals) (y := yJ24_equals) (bytes := cJ24_equals) (maxL := 2) (rt := some .boolean) (n := 1) (As := [v]) (rest := rest) (C1 := RX4) (owner := "java/lang/Object") (hb.recv C hR (ci := 4) (T := TX4) (N := 7) rfl) (lw_U q542 q544 q546 q543 q2153 q580) rfl (by decide +kernel) (by decide) rfl rfl hcat hdg hcal hk hx
/-- getClass of an array of Objects -/
theorem z_getC (C : zC X (d + 1) E RJ5 cc nL ret nm) (hR : zRep X g H) (hS : va_S (zA X) (zS E).heap H locs) (hl : lv_has ls nL lc) {t a n : Nat} {f : Nat → Option Nat} (ho : zGq g t a = some (n, f) ∧ ¬ t < 64 ∨ a = ze1 X ∨ a = ze2 X) (hcat : (rest.map fun v => v.category).sum ≤ 8) (hdg : decode cc pc = .ok (.invokevirtual 86, 3))
    (kk : zV X E H locs (F0 (zm E) (pc + 3) ls (.ref (zm2 X) :: rest))) : zV X E H locs (F0 (zm E) pc ls (.ref a :: rest)) := by
  have hd : (Cond.declares ⟨"java/lang/Object", "getClass", "()Ljava/lang/Class;"⟩).before (za E) (zS E) = true := va_Dc.use (va_Dc.moved C.wm.alike (va_Dc.of (C.ok.2.1 _ q1210)))
  have hfr := C.frames
  have hlo := C.locals
  have hT : ∀ {q : Nat}, va_O "[Ljava/lang/Object;" q (zA X) (zS E) (zS E).heap → ∃ cell : Cell, H[q]? = some cell ∧ cell.vm.isStatics = false ∧ (zS E).vm.findClass "[Ljava/lang/Object;" = some cell.cls := by
    intro q h
    obtain ⟨cell, h1, h2, h3, -⟩ := va_O.kept h hS.2.1
    exact ⟨cell, h1, h2, h3⟩
  refine va_getC C.x C.b (C.ml.trans hl.1.symm) C.ow (C.ts _ q205) hd (C.ts _ q2177) (C.ts _ q206) (C.ts _ q228) C.st.2.2.2.2.2.2.2.1.2.1 ?_ (by omega) (by omega) hdg kk
  rcases ho with ⟨ho, ht⟩ | rfl | rfl
  · obtain ⟨ws, q, hP, hD, hi⟩ := hR.ws_q ho
    rw [show ztQ t = 3 from if_neg ht] at hi
    exact ⟨_, hP q _ hi, rfl, va_nmO (C.K.2 3 _ rfl).2 rfl⟩
  · exact hT C.st.2.2.2.2.2.2.2.1.2.2.1
  · exact hT C.st.2.2.2.2.2.2.2.1.2.2.2
theorem z_ldcM (C : zC X d E own cc nL ret nm) {index : Nat} (hlink : Cond.classLink own index "[Ljava/lang/Object;" ∈ lw_all) (hdg : decode cc pc = .ok (.ldc index, 2))
    (kk : zV X E H locs (F0 (zm E) (pc + 2) ls (.ref (zm2 X) :: rest))) : zV X E H locs (F0 (zm E) pc ls rest) :=
  va_ldcM C.x C.b C.ow (C.ts _ hlink) C.st.2.2.2.2.2.2.2.1.2.1 hdg kk
theorem z_ldcA (C : zC X d E own cc nL ret nm) {index : Nat} (hlink : Cond.classLink own index "java/util/ArrayList" ∈ lw_all) (hdg : decode cc pc = .ok (.ldc index, 2))
    (kk : zV X E H locs (F0 (zm E) (pc + 2) ls (.ref (zm1 X) :: rest))) : zV X E H locs (F0 (zm E) pc ls rest) :=
  va_ldcM C.x C.b C.ow (C.ts _ hlink) C.st.2.2.2.2.2.2.2.1.1 hdg kk
theorem z_castI (C : zC X d E own cc nL ret nm) (hR : zRep X g H) (hS : va_S (zA X) (zS E).heap H locs) {index a : Nat} (h : ∃ k : Nat, k < 256 ∧ a = zN X k) (hlink : Cond.classLink own index "java/lang/Integer" ∈ lw_all) (hdg : decode cc pc = .ok (.checkcast index, 3))
    (k : zV X E H locs (F0 (zm E) (pc + 3) ls (.ref a :: rest))) : zV X E H locs (F0 (zm E) pc ls (.ref a :: rest)) := by
  obtain ⟨j, hj, rfl⟩ := h
  obtain ⟨cell, h1, h2, h3, h4⟩ := (C.st.2.1.1 j hj).kept hS.2.1
  obtain ⟨cI, iI, hKn, hAt⟩ := u_known (C := RJ21) (T := TJ21) (N := 1) (n := 1) C.ts in_J21 (C.ts _ q1144)
  exact va_castS C.x C.b C.ow (C.ts _ hlink) hAt ⟨cell, h1, h2, h3⟩ hdg k
end ZMAC
