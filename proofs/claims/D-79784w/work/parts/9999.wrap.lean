set_option maxRecDepth 100000
/-! the law's own methods: a call of the class's, its exceptions caught -/
/-- classes that aren't each other -/
def zNx (X : zX) : Prop := va_Nc RJ12 RJ9 (zs X) ∧ va_Nc RJ13 RJ9 (zs X) ∧ va_Nc RJ13 RJ12 (zs X)
/-- a frame's end, of a method with handlers -/
def zQH (X : zX) (E : zM) (K : Option Value → zG → Prop) (KX : String → zG → Prop) : Prop := zms (zS E) ≤ zz X ∧
  zq E = vx_MQ (zb E) (fun _ st o t => (∃ (r : Option Value) (g' : zG), o = .returned r ∧ zRep X g' t.heap ∧ K r g') ∧ st.heap.size ≤ t.heap.size)
    (fun x st t => (∃ g' : zG, zRep X g' t.heap ∧ KX x g') ∧ st.heap.size ≤ t.heap.size) (za E) (zS E) (zz X - zms (zS E)) (zz X - zms (zS E)) (zA X)
section ZWR
variable {X : zX} {d : Nat} {E : zM} {own : String} {cc : ByteArray} {nL : Nat} {ret : Option FieldType} {nm : String} {g : zG} {pc : Nat} {rest : List Value} {lc : List (Nat × Value)} {K : Option Value → zG → Prop} {KX : String → zG → Prop} {H : Heap} {locs : List Loc} {ls : Array Slot} {st0 : List Value}
theorem z_enterH {y : MethodName} {as : List Value} {hh : List (Nat × Nat × Nat × Nat)} (hok : zOk X) (hy : plainName y.cls = true) (hlen : (lg_sl as).length ≤ nL)
    (body : ∀ E : zM, zC X d E y.cls cc nL ret y.name → (zc E).exceptionTable.toList = tableOf hh → zQH X E K KX → GW X E nL g 0 (lv_args 0 as) []) : zCal X d y (wsW_ y cc nL ret hh) as g K KX := by
  intro N hN
  refine vx_ofWH (cc := cc) (maxL := nL) (ret := ret) (hh := hh) hy rfl ?_
  intro p e s m args below meth c s₁ B hml hv
  obtain ⟨rfl, hNs, hW, hR⟩ := hv
  subst hNs
  have hts := atoms_spec (ws := wsW_ y cc nL ret hh) B.pre
  have htab := vx_table (x := y) B (hts _ List.mem_cons_self)
  have hts : ∀ w ∈ lw_all, w.before _ s = true := fun w h => hts w (List.mem_cons_of_mem _ h)
  have hown : s.vm.findClass y.cls = some m.cls := findClass_of_methodNamed B.named
  have hl := lv_entry as (n := nL) hlen
  rw [lg_entry_eq]
  generalize (lg_sl as ++ List.replicate (nL - (lg_sl as).length) Slot.unset).toArray = ls at hl ⊢
  have k := body (p, e, (headSpec (wsW_ y cc nL ret hh) { frames := d, cells := zz X - zms s, slots := zz X - zms s, locals := 64 * d }).room, s, m, as.toArray, below, meth, c, vx_MQ below (fun _ => zQa X K) (zQx X KX) as.toArray s (zz X - zms s) (zz X - zms s) (zA X))
    ⟨⟨B.exec, B.bytes, hml, hown⟩, ⟨B.notSynchronized, B.returns, (name_of_methodNamed B.named B.method).1⟩, hts, hok, hW, ⟨hR.1.1, hR.1.2⟩, Nat.le_refl _, Nat.le_refl _, Nat.le_refl _, Nat.le_refl _⟩ htab ⟨Nat.le_trans hR.2.1.1 hR.2.1.2, rfl⟩
  exact zw_tight (k s.heap [] ls hR va_S.rf hl)
theorem zQH.widen {f : JFrame} (hQ : zQH X E K KX) (hR : zRep X g H) (k : zW X E H locs (zz X - zms (zS E)) (zz X - zms (zS E)) f) : zV X E H locs f := by
  refine zV.bound fun b1 b2 => ?_
  have h1 := hR.2.1
  have h2 := hQ.1
  unfold zms at h2 k
  exact W.widen (by omega) (by omega) k
theorem z_iretH (C : zC X d E own cc nL (some .int) nm) (hQ : zQH X E K KX) {v : Int32} (hdg : decode cc pc = .ok (.ireturn, 1)) (h : K (some (.int v)) g) : GW X E nL g pc lc [.int v] := by
  intro H locs ls hR hS hl
  refine hQ.widen hR ?_
  unfold zW
  rw [hQ.2]
  exact vx_ret (W.iret C.x C.b C.re (fun t ht hW => ⟨⟨_, g, rfl, by rw [ht]; exact hR, h⟩, by rw [ht]; exact hS.1⟩) hS.2.2 hdg C.lk)
theorem z_catch (C : zC X d E own cc nL ret nm) {pre suf : List ExceptionTableEntry} {en : ExceptionTableEntry} (hT : (zc E).exceptionTable.toList = pre ++ en :: suf) {x name : String} (hpass : ∀ z ∈ pre, covers z pc = false ∨ (z.catchType ≠ 0 ∧ ∃ nm : String, (Cond.classLink own z.catchType nm).before (za E) (zS E) = true ∧ va_Nc x nm (zS E)))
    (hx : covers en pc = true) (h0 : en.catchType ≠ 0) (hlink : (Cond.classLink own en.catchType name).before (za E) (zS E) = true) (hcast : (Cond.castable x name).before (za E) (zS E) = true) (k : ∀ q : Nat, GW X E nL g en.handlerPc lc [.ref q]) : GX X E nL g pc lc x :=
  fun H locs ls rest q ce hR hS hl hce hcv hcl => vx_catch C.ow pre en suf hT hpass hx h0 hlink hcast hce hcv hcl (k q H locs ls hR hS hl)
theorem zNx.at (h : zNx X) (C : zC X d E own cc nL ret nm) : va_Nc RJ12 RJ9 (zS E) ∧ va_Nc RJ13 RJ9 (zS E) ∧ va_Nc RJ13 RJ12 (zS E) :=
  ⟨h.1.moved C.wm.alike, h.2.1.moved C.wm.alike, h.2.2.moved C.wm.alike⟩
/-- a handler of a method of the law's: the exception's number is answered -/
theorem z_hand (C : zC X d E own cc nL (some .int) nm) (hQ : zQH X E K KX) {pc2 n : Nat} (h1 : (∃ k : Nat, decode cc pc2 = .ok (.astore k, 2) ∧ k < nL ∧ n = 2) ∨ (∃ k : Fin 4, decode cc pc2 = .ok (.astore_n k, 1) ∧ (k : Nat) < nL ∧ n = 1)) {iv : Int} {v : Int32} (h2 : decode cc (pc2 + n) = .ok (.iconst iv, 1)) (hv : Int32.ofInt iv = v) (h3 : decode cc (pc2 + n + 1) = .ok (.ireturn, 1)) (h : K (some (.int v)) g) (q : Nat) : GW X E nL g pc2 lc [.ref q] := by
  intro H locs ls hR hS hl
  have fin : ∀ (ls' : Array Slot) (lc' : List (Nat × Value)), lv_has ls' nL lc' → zV X E H locs (F0 (zm E) (pc2 + n) ls' []) := fun ls' lc' hl' => by
    refine lv_iconst (v := v) C.x C.b h2 hv ?_
    exact z_iretH C hQ h3 h H locs ls' hR hS hl'
  rcases h1 with ⟨k, h1, hk, rfl⟩ | ⟨k, h1, hk, rfl⟩
  · exact lv_astore C.x C.b h1 hl hk rfl (fun ls hl => fin ls _ hl)
  · exact lv_astore_n C.x C.b h1 rfl hl hk rfl (fun ls hl => fin ls _ hl)
/-- a call of a method of the law's -/
theorem z_callSW (C : zC X (d + 1) E own cc nL ret nm) (hR : zRep X g H) (hS : va_S (zA X) (zS E).heap H locs) (hl : lv_has ls nL lc) {index maxL n : Nat} {y : MethodName} {bytes : ByteArray} {rt : Option FieldType} {hh : List (Nat × Nat × Nat × Nat)} {As : List Value}
    (hw : GoodIn lw_all (va_wsS own index y (wsW_ y bytes maxL rt hh))) (hd : y.cls ≠ "java/lang/invoke/MethodHandle" ∧ y.cls ≠ "java/lang/invoke/VarHandle" ∧ (parseMethodDescriptor y.desc).map (fun d => d.parameters.length) = some n) (hL : maxL ≤ 45) (hn : As.length = n)
    (hst : st0 = As.reverse ++ rest) (hcat : (rest.map fun v => v.category).sum ≤ 8) (hdg : decode cc pc = .ok (.invokestatic index, 3))
    (hcal : zCal X d y (wsW_ y bytes maxL rt hh) As g K KX) (hk : ∀ r g', K r g' → GW X E nL g' (pc + 3) lc (r.toList ++ rest)) (hx : ∀ x g', KX x g' → GX X E nL g' pc lc x) : zV X E H locs (F0 (zm E) pc ls st0) := by
  refine zV.bound fun b1 b2 => ?_
  obtain ⟨p1, p2⟩ := z_pre C hR As
  have hM := hcal (H.size + zsl H) (Nat.le_trans hR.2.1.1 hR.2.1.2)
  have cw := vx_cwSW (R := zR E) n C.ts hw rfl (hrc := rfl) (hrs := rfl) hd (z_rm (c1 := zz X - (H.size + zsl H)) (s1 := zz X - (H.size + zsl H)) C hL)
  exact z_run C hS hl (vx_runSX (As := As) (rest := rest) ⟨C.x, C.b, C.ml, C.ow, C.ts⟩ hM cw ⟨p1, p2⟩ rfl hn hl.1 hst (lv_room hcat) hdg (z_fit C hR b1 b2)) hk hx
/-- the script, read -/
theorem z_sld (C : zC X d E own cc nL ret nm) (hS : va_S (zA X) (zS E).heap H locs) {b L : Nat} {xs : Nat → Int32} (hE : (zS E).heap.size = (zs X).heap.size) (hX : va_X b L xs (zS E) (zS E).heap) (hb : b < (zs X).heap.size) {i : Int32} (hin : vp_in i L) (hdg : decode cc pc = .ok (.iaload, 1))
    (k : zV X E H locs (F0 (zm E) (pc + 1) ls (.int (xs i.toNatClampNeg) :: rest))) : zV X E H locs (F0 (zm E) pc ls (.int i :: .ref b :: rest)) :=
  va_sld C.x C.b hX (by rw [hE]; exact hb) (fun h => absurd hb (Nat.not_lt.mpr h)) hS hin hdg k
theorem z_slen (C : zC X d E own cc nL ret nm) (hS : va_S (zA X) (zS E).heap H locs) {b L : Nat} {xs : Nat → Int32} (hE : (zS E).heap.size = (zs X).heap.size) (hX : va_X b L xs (zS E) (zS E).heap) (hb : b < (zs X).heap.size) (hdg : decode cc pc = .ok (.arraylength, 1))
    (k : zV X E H locs (F0 (zm E) (pc + 1) ls (.int (nI L) :: rest))) : zV X E H locs (F0 (zm E) pc ls (.ref b :: rest)) :=
  va_slen C.x C.b hX (by rw [hE]; exact hb) (fun h => absurd hb (Nat.not_lt.mpr h)) hS hdg k
end ZWR
theorem z_in01 : vp_in (0 : Int32) 1 := by
  unfold vp_in
  decide
