set_option maxRecDepth 100000
section ZCP
variable {X : zX} {d : Nat} {E : zM} {own : String} {cc : ByteArray} {nL : Nat} {ret : Option FieldType} {nm : String} {g : zG} {H : Heap} {locs : List Loc} {ls : Array Slot} {pc : Nat} {rest st0 : List Value} {lc : List (Nat × Value)} {K : Option Value → zG → Prop} {KX : String → zG → Prop}
theorem zSq_same {t a n : Nat} {f : Nat → Option Nat} (ho : zGq g t a = some (n, f)) : zSq g t a n f = g := by
  have h : zup g.2.2.1 t a (n, f) = g.2.2.1 := by
    funext k b
    unfold zup
    by_cases h : k = t ∧ b = a
    · rw [if_pos h, h.1, h.2]
      exact ho.symm
    · rw [if_neg h]
  unfold zSq
  rw [h]
theorem z_copy0 (C : zC X (d + 1) E own cc nL ret nm) (hR : zRep X g H) (hS : va_S (zA X) (zS E).heap H locs) (hl : lv_has ls nL lc) {index : Nat} (hlink : Cond.methodLink own index arraycopyName ∈ lw_all) {t1 a0 a n1 : Nat} {f1 : Nat → Option Nat} (ha0 : a0 = ze1 X ∨ a0 = ze2 X) (ho1 : zGq g t1 a = some (n1, f1)) (ht1 : ¬ t1 < 64)
    {sp dp n : Int32} (h1 : ¬ sp < 0) (h2 : ¬ dp < 0) (h3 : ¬ n < 0) (h4 : sp.toNatClampNeg + n.toNatClampNeg ≤ 0) (h5 : dp.toNatClampNeg + n.toNatClampNeg ≤ n1) (hcat : (rest.map fun v => v.category).sum ≤ 8) (hdg : decode cc pc = .ok (.invokestatic index, 3))
    (kk : ∀ (H1 : Heap) (locs1 : List Loc), zRep X g H1 → va_S (zA X) (zS E).heap H1 locs1 → zV X E H1 locs1 (F0 (zm E) (pc + 3) ls rest)) : zV X E H locs (F0 (zm E) pc ls (.int n :: .int dp :: .ref a :: .int sp :: .ref a0 :: rest)) := by
  have nn : ∀ z : Int32, ¬ z < 0 → z.toInt = (z.toNatClampNeg : Int) := by
    intro z hz
    have hz0 : (0 : Int) ≤ z.toInt := by
      have := Int32.not_lt.mp hz
      simpa using Int32.le_iff_toInt_le.mp this
    show z.toInt = ((z.toInt.toNat : Nat) : Int)
    omega
  have hT : ∃ cell : Cell, H[a0]? = some cell ∧ (zS E).isArrayOf cell (.object "java/lang/Object") ∧ cell.vm ≠ .unknown ∧ cell.vm.isStatics = false := by
    have h7 := C.st.2.2.2.2.1.2
    have h9 := C.st.2.2.2.2.2.1.2
    have o1 := C.st.2.2.2.2.2.2.2.1.2.2.1
    have o2 := C.st.2.2.2.2.2.2.2.1.2.2.2
    rcases ha0 with rfl | rfl
    · obtain ⟨cell, g1, g2, g3, -⟩ := h7.kept hS.2.1
      obtain ⟨cell2, k1, k2, -⟩ := o1.kept hS.2.1
      cases g1.symm.trans k1
      exact ⟨cell, g1, g2, g3, k2⟩
    · obtain ⟨cell, g1, g2, g3, -⟩ := h9.kept hS.2.1
      obtain ⟨cell2, k1, k2, -⟩ := o2.kept hS.2.1
      cases g1.symm.trans k1
      exact ⟨cell, g1, g2, g3, k2⟩
  obtain ⟨cs, hc0, ⟨-, ks, hks, cms, hkks⟩, hkn, hns⟩ := hT
  obtain ⟨ws, q1, hP, hD, hi⟩ := hR.ws_q ho1
  rw [show ztQ t1 = 3 from if_neg ht1] at hi
  have hc1 : H[a]? = some (vp_cell (zcA X 3) (n1, .inr (.inr (.inr (.inr f1))))) := hP q1 _ hi
  obtain ⟨-, k1, hk1, cm1, hkk1⟩ := (C.K.2 3 _ rfl).1 n1 (fun j => va_rf (f1 j))
  have hn0 : n.toNatClampNeg = 0 := by omega
  have hsp0 : sp.toNatClampNeg = 0 := by omega
  have hfr := C.frames
  have hlo := C.locals
  have hnw : nativeFrameWords "java/lang/System" "arraycopy" 5 + 11 ≤ 50 := by decide +kernel
  intro T hT X1
  obtain ⟨vm', X', step⟩ := X1.arraycopy C.x C.ow (C.ts _ hlink) (C.ts _ q240) (C.ts _ q239) (C.ts _ q81) (src := a0) (dst := a) (cs := cs) (cd := vp_cell (zcA X 3) (n1, .inr (.inr (.inr (.inr f1))))) (srcPos := sp) (destPos := dp) (n := n) (by rw [hT]; exact hc0) (by rw [hT]; exact hc1)
    (fun _ h => by rw [h] at hns; cases hns) (fun _ h => by cases h) hkn (fun h => by cases h) hks hk1 hkks hkk1 rfl h1 h2 h3
    (by rw [nn sp h1, nn n h3, hn0, hsp0]; omega)
    (by rw [nn dp h2, nn n h3]; show ¬ _ > ((arrV (zcA X 3) n1 (fun j => va_rf (f1 j))).slots.size : Int); rw [arrV_size]; omega)
    (fun vm₁ hal i hi => absurd hi (by omega))
    (g := F0 (zm E) pc ls (.int n :: .int dp :: .ref a :: .int sp :: .ref a0 :: rest)) rfl (by rw [C.ml]; exact hl.1) (rest := rest) rfl (by rw [C.b]; exact hdg) (by omega) (by show 2 * 0 + _ + _ ≤ _; omega)
  have hl2 : a < H.size := (Array.getElem?_eq_some_iff.mp hc1).1
  have e1 : copied cs (vp_cell (zcA X 3) (n1, .inr (.inr (.inr (.inr f1))))) sp dp n = vp_cell (zcA X 3) (n1, .inr (.inr (.inr (.inr f1)))) := by
    simp [copied, Cell.stretch, hn0]
    rfl
  have e2 : cs.stretch sp.toNatClampNeg n.toNatClampNeg = [] := by simp [Cell.stretch, hn0]
  rw [e1, e2] at X'
  rw [e1] at step
  have hheap : ((T.setVm vm').setCell a (vp_cell (zcA X 3) (n1, .inr (.inr (.inr (.inr f1)))))).heap = H := by
    have : ((T.setVm vm').setCell a (vp_cell (zcA X 3) (n1, .inr (.inr (.inr (.inr f1)))))).heap = H.setIfInBounds a (vp_cell (zcA X 3) (n1, .inr (.inr (.inr (.inr f1))))) := by rw [← hT]; rfl
    rw [this]
    apply Array.ext_getElem?
    intro i
    by_cases hia : a = i
    · subst hia
      rw [Array.getElem?_setIfInBounds_self_of_lt hl2, hc1]
    · rw [Array.getElem?_setIfInBounds_ne hia]
  simp only [List.zipIdx_nil, List.map_nil, List.append_nil] at X'
  obtain ⟨t, a1, b1⟩ := kk H locs hR hS _ hheap X'
  exact ⟨t, step t a1, b1⟩
theorem z_copy2 (C : zC X (d + 1) E own cc nL ret nm) (hR : zRep X g H) (hS : va_S (zA X) (zS E).heap H locs) (hl : lv_has ls nL lc) {index : Nat} (hlink : Cond.methodLink own index arraycopyName ∈ lw_all) {t0 t1 a0 a n0 n1 : Nat} {f f1 : Nat → Option Nat} (ho : zGq g t0 a0 = some (n0, f) ∧ ¬ t0 < 64 ∨ n0 = 0 ∧ (a0 = ze1 X ∨ a0 = ze2 X)) (ho1 : zGq g t1 a = some (n1, f1)) (ht1 : ¬ t1 < 64)
    {sp dp n : Int32} (h1 : ¬ sp < 0) (h2 : ¬ dp < 0) (h3 : ¬ n < 0) (h4 : sp.toNatClampNeg + n.toNatClampNeg ≤ n0) (h5 : dp.toNatClampNeg + n.toNatClampNeg ≤ n1) (hel : ∀ i : Nat, i < n.toNatClampNeg → ∀ y : Nat, f (sp.toNatClampNeg + i) = some y → zob g y) (hcat : (rest.map fun v => v.category).sum ≤ 8) (hdg : decode cc pc = .ok (.invokestatic index, 3))
    (kk : ∀ (H1 : Heap) (locs1 : List Loc), zRep X (zSq g t1 a n1 (va_cpy f f1 sp.toNatClampNeg dp.toNatClampNeg n.toNatClampNeg)) H1 → va_S (zA X) (zS E).heap H1 locs1 → zV X E H1 locs1 (F0 (zm E) (pc + 3) ls rest)) : zV X E H locs (F0 (zm E) pc ls (.int n :: .int dp :: .ref a :: .int sp :: .ref a0 :: rest)) := by
  rcases ho with ⟨ho, ht0⟩ | ⟨rfl, ha0⟩
  · exact z_copy C hR hS hl hlink ho ho1 ht0 ht1 h1 h2 h3 h4 h5 hel hcat hdg kk
  · refine z_copy0 C hR hS hl hlink ha0 ho1 ht1 h1 h2 h3 h4 h5 hcat hdg ?_
    have e : va_cpy f f1 sp.toNatClampNeg dp.toNatClampNeg n.toNatClampNeg = f1 := by
      funext k
      unfold va_cpy
      rw [if_neg (by omega)]
    rw [e, zSq_same ho1] at kk
    exact kk
end ZCP
theorem zx_ofW {l : Launch} {y : MethodName} {ws ws' : List Cond} {rm : Room} {Pc : Array Value → State → Prop} {Qc : Array Value → State → Outcome → State → Prop} {XC : String → State → State → Prop} {mc ms : Nat} {free : Addr → Prop} {cc : ByteArray} {maxL : Nat} {ret : Option FieldType}
    (hy : plainFor y = true) (hw : ws = Cond.code y cc maxL ret :: ws')
    (body : ∀ p e s m args below meth c s₁, BodyLoose p l y (headSpec ws rm) cc maxL ret e s m args below meth c s₁ → c.maxLocals = maxL → (∀ x ∈ c.exceptionTable.toList, False) → Pc args s →
      W p l e (headSpec ws rm).room s m args below meth c s.heap [] 0 0 (vx_MQ below Qc XC args s mc ms free) (entryFrame m args maxL)) : vx_Met l y ws rm Pc Qc XC mc ms free := by
  refine MetFree.of_bodySF (code := cc) (maxLocals := maxL) (ret := ret) hy ?_ ?_
  · intro args s m h hn
    obtain ⟨meth, c, h1, h2, h3, h4, h5, h6, -, -⟩ := Cond.code_spec hn (atoms_spec (ws := ws) h _ (by rw [hw]; exact List.mem_cons_self))
    exact ⟨meth, c, h1, h2, h3, h4, h5, h6⟩
  · intro p e s m args below meth c s₁ B hml hP _
    have hh0 : s₁.heap = s.heap := by rw [B.state]; rfl
    have ht : ∀ x ∈ c.exceptionTable.toList, False := by
      obtain ⟨meth9, c9, h1, h2, -, -, -, -, h7, -⟩ := Cond.code_spec B.named (atoms_spec (ws := ws) B.pre _ (by rw [hw]; exact List.mem_cons_self))
      cases Option.some.inj (h1.symm.trans B.method)
      cases Option.some.inj (h2.symm.trans (Stand.of_body B).code)
      intro x hx
      rw [Array.isEmpty_iff.mp h7] at hx
      cases hx
    obtain ⟨t, a1, o, b1, b2, b3⟩ := body p e s m args below meth c s₁ B hml ht hP s₁ hh0 (Stand.of_body B)
    exact ⟨t, o, a1, b1, b2, b3⟩
section ZENF
variable {X : zX} {d : Nat} {cc : ByteArray} {nL : Nat} {ret : Option FieldType} {g : zG} {K : Option Value → zG → Prop} {KX : String → zG → Prop}
theorem z_enterF {y : MethodName} {as : List Value} (hok : zOk X) (hy : plainFor y = true) (hlen : (lg_sl as).length ≤ nL)
    (body : ∀ E : zM, zC X d E y.cls cc nL ret y.name → zQ X E K KX → GW X E nL g 0 (lv_args 0 as) []) : zCal X d y (ws_ y cc nL ret) as g K KX := by
  intro N hN
  refine zx_ofW (cc := cc) (maxL := nL) (ret := ret) hy rfl ?_
  intro p e s m args below meth c s₁ B hml htab hv
  obtain ⟨rfl, hNs, hW, hR⟩ := hv
  subst hNs
  have hts := atoms_spec (ws := ws_ y cc nL ret) B.pre
  have hts : ∀ w ∈ lw_all, w.before _ s = true := fun w h => hts w (List.mem_cons_of_mem _ h)
  have hown : s.vm.findClass y.cls = some m.cls := findClass_of_methodNamed B.named
  have hl := lv_entry as (n := nL) hlen
  rw [lg_entry_eq]
  generalize (lg_sl as ++ List.replicate (nL - (lg_sl as).length) Slot.unset).toArray = ls at hl ⊢
  have k := body (p, e, (headSpec (ws_ y cc nL ret) { frames := d, cells := zz X - zms s, slots := zz X - zms s, locals := 64 * d }).room, s, m, as.toArray, below, meth, c, vx_MQ below (fun _ => zQa X K) (zQx X KX) as.toArray s (zz X - zms s) (zz X - zms s) (zA X))
    ⟨⟨B.exec, B.bytes, hml, hown⟩, ⟨B.notSynchronized, B.returns, (name_of_methodNamed B.named B.method).1⟩, hts, hok, hW, ⟨hR.1.1, hR.1.2⟩, Nat.le_refl _, Nat.le_refl _, Nat.le_refl _, Nat.le_refl _⟩ ⟨Nat.le_trans hR.2.1.1 hR.2.1.2, htab, rfl⟩
  exact zw_tight (k s.heap [] ls hR va_S.rf hl)
end ZENF
theorem pf_J24_equals : plainFor yJ24_equals = true := by decide +kernel
theorem pf_J4_max : plainFor yJ4_max = true := by decide +kernel
theorem pf_J4_min : plainFor yJ4_min = true := by decide +kernel
theorem pf_J4_abs : plainFor yJ4_abs = true := by decide +kernel
theorem zdf_J22 : ∀ j, j < 4 → defaultValue (tyJ22 j) = vp_V [.int 0, .int 0, .int 0, .null] j := by
  intro j hj
  match j, hj with
  | 0, _ => rfl
  | 1, _ => rfl
  | 2, _ => rfl
  | 3, _ => rfl
  | j + 4, h => exact absurd h (by omega)
section ZOI
variable {X : zX} {d : Nat} {E : zM} {own : String} {cc : ByteArray} {nL : Nat} {ret : Option FieldType} {nm : String} {g : zG} {H : Heap} {locs : List Loc} {ls : Array Slot} {pc : Nat} {rest : List Value} {lc : List (Nat × Value)}
theorem z_objInit (C : zC X (d + 1) E own cc nL ret nm) (hl : lv_has ls nL lc) {index a : Nat} (hlink : Cond.methodLink own index Lib.objectInit ∈ lw_all) (hcat : (rest.map fun v => v.category).sum ≤ 8) (hdg : decode cc pc = .ok (.invokespecial index, 3))
    (kk : zV X E H locs (F0 (zm E) (pc + 3) ls rest)) : zV X E H locs (F0 (zm E) pc ls (.ref a :: rest)) := by
  have hfr := C.frames
  have hlo := C.locals
  exact W.objInit C.x C.b C.ow (C.ts _ hlink) (C.ts _ q116) (C.ts _ q117) rfl (by rw [C.ml]; exact hl.1) rfl hdg (by omega) (by show 2 * 0 + _ + _ ≤ _; omega) kk
end ZOI
