set_option maxRecDepth 100000
section ZGC
variable {X : zX} {d : Nat} {E : zM} {own : String} {cc : ByteArray} {nL : Nat} {ret : Option FieldType} {nm : String} {g : zG} {H : Heap} {locs : List Loc} {ls : Array Slot} {pc : Nat} {rest : List Value} {lc : List (Nat × Value)}
abbrev zgI : MethodName := ⟨"java/util/Collection", "getClass", "()Ljava/lang/Class;"⟩
abbrev zgO : MethodName := ⟨"java/lang/Object", "getClass", "()Ljava/lang/Class;"⟩
theorem zgc_face {s U : State} (hvm : s.vm.Alike U.vm) {a a' : Array Value} (hd : (Cond.declares zgO).before a s = true) (h : (Cond.interfaceMethod "java/util/Collection" "java/lang/Object" "getClass" "()Ljava/lang/Class;").before a s = true) : (Cond.interfaceMethod "java/util/Collection" "java/lang/Object" "getClass" "()Ljava/lang/Class;").before a' U = true := by
  have e : (Cond.interfaceMethod "java/util/Collection" "java/lang/Object" "getClass" "()Ljava/lang/Class;").before a (s.setVm U.vm) = (Cond.interfaceMethod "java/util/Collection" "java/lang/Object" "getClass" "()Ljava/lang/Class;").before a s := by
    have hf : (s.setVm U.vm).methodFound? "java/util/Collection" "getClass" "()Ljava/lang/Class;" = s.methodFound? "java/util/Collection" "getClass" "()Ljava/lang/Class;" := State.methodFound?_setVm hvm _ _ _
    simp only [Cond.before, Cond.holds, Cond.value, State.vm_setVm, hvm.findClass, hf, State.methodNamed?_setVm hvm, arm_isInterface_setVm hvm]
  exact va_tabs (A := a) (u := s.setVm U.vm) rfl rfl (by rw [e]; exact h)
theorem z_getCI (C : zC X (d + 1) E RJ2 cc nL ret nm) (hR : zRep X g H) (hS : va_S (zA X) (zS E).heap H locs) (hl : lv_has ls nL lc) {b : Nat} (hb : zIs g 0 b) (hcat : (rest.map fun v => v.category).sum ≤ 8) (hdg : decode cc pc = .ok (.invokeinterface 52 1, 5))
    (kk : zV X E H locs (F0 (zm E) (pc + 5) ls (.ref (zm1 X) :: rest))) : zV X E H locs (F0 (zm E) pc ls (.ref b :: rest)) := by
  have hd0 : (Cond.declares zgO).before (zar X) (zs X) = true := C.ok.2.1 _ q1210
  have hd : (Cond.declares zgO).before (za E) (zS E) = true := va_Dc.use (va_Dc.moved C.wm.alike (va_Dc.of hd0))
  have hface : (Cond.interfaceMethod "java/util/Collection" "java/lang/Object" "getClass" "()Ljava/lang/Class;").before (za E) (zS E) = true := zgc_face C.wm.alike hd0 (C.ok.2.1 _ q1209)
  have hsel0 : (Cond.selects "java/util/ArrayList" zgO zgO).before (za E) (zS E) = true := C.ts _ q226
  obtain ⟨c1, k1, m1, hc1, hk1, hi1, hf1, hn1⟩ := Cond.interfaceMethod_spec hface
  have hf0 := State.methodFound?_of_named hn1 (by decide)
  have hsel : (Cond.selects "java/util/ArrayList" zgI zgO).before (za E) (zS E) = true := by
    have e : (zS E).methodFound? "java/util/Collection" "getClass" "()Ljava/lang/Class;" = (zS E).methodFound? "java/lang/Object" "getClass" "()Ljava/lang/Class;" := hf1.trans hf0.symm
    simp only [Cond.before, Cond.holds, Cond.value] at hsel0 ⊢
    rw [e]
    exact hsel0
  have hpub : (Cond.publicMethod zgO).before (za E) (zS E) = true := by
    have e := Cond.publicMethod_setVm (args := zar X) C.wm.alike (x := zgO)
    exact va_tabs (A := zar X) (u := (zs X).setVm (zS E).vm) rfl rfl (by rw [e]; exact C.ok.2.1 _ q1212)
  have hunh : (Cond.unhidden "java/util/ArrayList" "getClass" "()Ljava/lang/Class;").before (za E) (zS E) = true := by
    have e := Cond.unhidden_setVm (args := zar X) C.wm.alike (cls := "java/util/ArrayList") (name := "getClass") (desc := "()Ljava/lang/Class;")
    exact va_tabs (A := zar X) (u := (zs X).setVm (zS E).vm) rfl rfl (by rw [e]; exact C.ok.2.1 _ q1211)
  obtain ⟨cB, kB, hcB, hkB, hmir⟩ := C.st.2.2.2.2.2.2.2.1.1
  obtain ⟨cell, g1, g2, g3⟩ := hb.recv C hR (ci := 0) (C1 := RJ2) (T := TJ2) (N := 3) rfl
  have hfr := C.frames
  have hlo := C.locals
  intro T hT X1
  obtain ⟨vm', X', st⟩ := X1.getClassOfI C.x (xi := zgI) (C := "java/util/ArrayList") C.ow (C.ts _ q1208) hd hface hsel (C.ts _ q206) hpub hunh (va_Nw.use rfl (C.nestC q1201)) (C.ts _ q228) (by decide) (by decide) rfl rfl hcB hkB ⟨cell, by rw [hT]; exact g1, Option.some.inj (g3.symm.trans hcB), g2⟩ hmir
    (g := F0 (zm E) pc ls (.ref b :: rest)) rfl (by rw [C.ml]; exact hl.1) (rest := rest) rfl (by rw [C.b]; exact hdg) (by omega) (by show 2 * 0 + _ + _ ≤ _; have hw : nativeFrameWords "java/lang/Object" "getClass" 1 = 3 := (by decide); omega)
  obtain ⟨t, a1, b1⟩ := kk (T.setVm vm') hT X'
  exact ⟨t, st t a1, b1⟩
end ZGC
