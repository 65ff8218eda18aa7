set_option maxRecDepth 100000
abbrev zV (X : zX) (E : zM) (H : Heap) (locs : List Loc) (f : JFrame) : Prop := zW X E H locs (H.size - (zS E).heap.size) (zsl H - zsl (zS E).heap) f
section ZC
variable {X : zX} {d : Nat} {E : zM} {own : String} {cc : ByteArray} {nL : Nat} {ret : Option FieldType} {nm : String}
theorem zC.x (C : zC X d E own cc nL ret nm) : (zp E).tables.exec = Jvm.exec := C.1.1
theorem zC.b (C : zC X d E own cc nL ret nm) : (zc E).code = cc := C.1.2.1
theorem zC.ml (C : zC X d E own cc nL ret nm) : (zc E).maxLocals = nL := C.1.2.2.1
theorem zC.ow (C : zC X d E own cc nL ret nm) : (zS E).vm.findClass own = some (zm E).cls := C.1.2.2.2
theorem zC.lk (C : zC X d E own cc nL ret nm) : (zh E).locks = false := C.2.1.1
theorem zC.re (C : zC X d E own cc nL ret nm) : (zh E).sig.returnType = ret := C.2.1.2.1
theorem zC.na (C : zC X d E own cc nL ret nm) : (zh E).name = nm := C.2.1.2.2
theorem zC.ts (C : zC X d E own cc nL ret nm) : ∀ w ∈ lw_all, w.before (za E) (zS E) = true := C.2.2.1
theorem zC.ok (C : zC X d E own cc nL ret nm) : zOk X := C.2.2.2.1
theorem zC.wm (C : zC X d E own cc nL ret nm) : (zs X).WarmedH (zS E).vm := C.2.2.2.2.1
theorem zC.K (C : zC X d E own cc nL ret nm) : va_K (zD X) zcl (zty X) (zS E) := va_K.moved C.wm.alike C.ok.1
theorem zC.lo (C : zC X d E own cc nL ret nm) : (zs X).heap.size ≤ (zS E).heap.size := C.2.2.2.2.2.1.1
theorem zC.old (C : zC X d E own cc nL ret nm) : ∀ q : Nat, q < (zs X).heap.size → (zS E).heap[q]? = (zs X).heap[q]? := C.2.2.2.2.2.1.2
theorem zC.cells (C : zC X d E own cc nL ret nm) : zz X - zms (zS E) ≤ (zR E).cells := C.2.2.2.2.2.2.1
theorem zC.slots (C : zC X d E own cc nL ret nm) : zz X - zms (zS E) ≤ (zR E).slots := C.2.2.2.2.2.2.2.1
theorem zC.frames (C : zC X d E own cc nL ret nm) : d ≤ (zR E).frames := C.2.2.2.2.2.2.2.2.1
theorem zC.locals (C : zC X d E own cc nL ret nm) : 64 * d ≤ (zR E).locals := C.2.2.2.2.2.2.2.2.2
theorem zC.A (C : zC X d E own cc nL ret nm) : ∀ q, (zS E).heap.size ≤ q → zA X q := fun q h => Nat.le_trans C.lo h
theorem zC.nestF (C : zC X d E own cc nL ret nm) {a : String} {i : Nat} {b n d h : String} (hw : Cond.fieldLinkNest a i b n d h ∈ lw_tbl) : (Cond.fieldLinkNest a i b n d h).before (za E) (zS E) = true := va_Nw.use rfl (va_Nw.warmF C.wm (va_Nw.of rfl (C.ok.2.1 _ hw)))
theorem zC.nestM (C : zC X d E own cc nL ret nm) {a : String} {i : Nat} {x : MethodName} {h : String} (hw : Cond.methodLinkNest a i x h ∈ lw_tbl) : va_Nw (.methodLinkNest a i x h) (zS E) := va_Nw.warmM C.wm (va_Nw.of rfl (C.ok.2.1 _ hw))
/-- what is old is as it was at the run's start -/
theorem zC.keep {H : Heap} {locs : List Loc} (C : zC X d E own cc nL ret nm) (hS : va_S (zA X) (zS E).heap H locs) : (zs X).heap.size ≤ H.size ∧ ∀ q : Nat, q < (zs X).heap.size → H[q]? = (zs X).heap[q]? :=
  ⟨Nat.le_trans C.lo hS.1, fun q h => (hS.2.1 q (Nat.lt_of_lt_of_le h C.lo) (fun z => Nat.not_le.mpr h z)).trans (C.old q h)⟩
theorem zV.bound {H : Heap} {locs : List Loc} {f : JFrame} (k : (zS E).heap.size ≤ H.size → zsl (zS E).heap ≤ zsl H → zV X E H locs f) : zV X E H locs f := zw_bound fun h1 h2 _ _ => k h1 h2
end ZC
section ZROW
variable {X : zX} {d : Nat} {E : zM} {own : String} {cc : ByteArray} {nL : Nat} {ret : Option FieldType} {nm : String} {g : zG} {H : Heap} {locs : List Loc} {ls : Array Slot} {pc : Nat} {rest : List Value}
theorem z_get (C : zC X d E own cc nL ret nm) (hR : zRep X g H) {ref C1 : String} {T : u_T} {N ci index k a : Nat} {fs : List Value} {v : Value} (ho : zGo g k a = some fs) (hk : zkc k = ci) (hc : zcl[ci]? = some (C1, T, N)) (hin : ∀ w ∈ u_ws C1 T N, w ∈ lw_all) (j : Nat) (hj : j < N)
    (hlink : Cond.fieldLink own index ref (T j).2.1 (T j).2.2.1 ∈ lw_all) (hsame : ∀ x, (zS E).fieldFound? (T j).1 (T j).2.1 (T j).2.2.1 = some x → (zS E).fieldFound? ref (T j).2.1 (T j).2.2.1 = some x) (hv : fs[j]? = some v) (hdg : decode cc pc = .ok (.getfield index, 3))
    (kk : zV X E H locs (F0 (zm E) (pc + 3) ls (v :: rest))) : zV X E H locs (F0 (zm E) pc ls (.ref a :: rest)) := by
  subst hk
  obtain ⟨ws, i, hP, hD, hi⟩ := hR.ws_o ho
  exact va_get C.x C.b C.ts hin C.ow C.K hP i hi hc j hj (C.ts _ hlink) hsame hv hdg kk
theorem z_getN (C : zC X d E own cc nL ret nm) (hR : zRep X g H) {ref C1 host : String} {T : u_T} {N ci index k a : Nat} {fs : List Value} {v : Value} (ho : zGo g k a = some fs) (hk : zkc k = ci) (hc : zcl[ci]? = some (C1, T, N)) (hin : ∀ w ∈ u_ws C1 T N, w ∈ lw_all) (j : Nat) (hj : j < N)
    (hlink : Cond.fieldLinkNest own index ref (T j).2.1 (T j).2.2.1 host ∈ lw_tbl) (hsame : ∀ x, (zS E).fieldFound? (T j).1 (T j).2.1 (T j).2.2.1 = some x → (zS E).fieldFound? ref (T j).2.1 (T j).2.2.1 = some x) (hv : fs[j]? = some v) (hdg : decode cc pc = .ok (.getfield index, 3))
    (kk : zV X E H locs (F0 (zm E) (pc + 3) ls (v :: rest))) : zV X E H locs (F0 (zm E) pc ls (.ref a :: rest)) := by
  subst hk
  obtain ⟨ws, i, hP, hD, hi⟩ := hR.ws_o ho
  exact va_getN C.x C.b C.ts hin C.ow C.K hP i hi hc j hj (C.nestF hlink) hsame hv hdg kk
theorem zset_end (C : zC X d E own cc nL ret nm) (hR : zRep X g H) {g' : zG} {H1 : Heap} {locs1 : List Loc} {f : JFrame} (hS1 : va_S (zA X) (zS E).heap H1 locs1)
    (hg : (zs X).heap.size ≤ H1.size ∧ (∀ q : Nat, q < (zs X).heap.size → H1[q]? = (zs X).heap[q]?) → H1.size + zsl H1 ≤ zGz g ∧ zGz g ≤ zz X → zRep X g' H1) (h1 : (zS E).heap.size ≤ H.size) (h2 : zsl (zS E).heap ≤ zsl H)
    (kk : zRep X g' H1 → va_S (zA X) (zS E).heap H1 locs1 → zV X E H1 locs1 f) : zW X E H1 locs1 (H.size - (zS E).heap.size) (zsl H - zsl (zS E).heap) f := by
  refine zw_bound fun q1 q2 q3 q4 => zw_tight ?_
  exact kk (hg (C.keep hS1) ⟨by have := hR.2.1.1; omega, hR.2.1.2⟩) hS1
theorem z_put (C : zC X d E own cc nL ret nm) (hR : zRep X g H) (hS : va_S (zA X) (zS E).heap H locs) {ref C1 : String} {T : u_T} {N ci index k a : Nat} {fs : List Value} {v : Value} (ho : zGo g k a = some fs) (hk : zkc k = ci) (hc : zcl[ci]? = some (C1, T, N)) (hin : ∀ w ∈ u_ws C1 T N, w ∈ lw_all) (ty0 : Nat → FieldType) (hty : ∀ k, k < N → parseFieldDescriptor (T k).2.2.1 = some (ty0 k)) (hnm : ∀ a, a < N → ∀ b, b < N → a ≠ b → (T a).2.1 ≠ (T b).2.1) (j : Nat) (hj : j < N)
    (hlink : Cond.fieldLink own index ref (T j).2.1 (T j).2.2.1 ∈ lw_all) (hsame : ∀ x, (zS E).fieldFound? (T j).1 (T j).2.1 (T j).2.2.1 = some x → (zS E).fieldFound? ref (T j).2.1 (T j).2.2.1 = some x) (hfin : (T j).2.2.2 = false) (hn : narrow (ty0 j) v = v ∧ fits (ty0 j) v = true) (hl : j < fs.length) (hdg : decode cc pc = .ok (.putfield index, 3))
    (kk : ∀ (H1 : Heap) (locs1 : List Loc), zRep X (zSo g k a (fs.set j v)) H1 → va_S (zA X) (zS E).heap H1 locs1 → zV X E H1 locs1 (F0 (zm E) (pc + 3) ls rest)) : zV X E H locs (F0 (zm E) pc ls (v :: .ref a :: rest)) := by
  subst hk
  refine zV.bound fun b1 b2 => ?_
  obtain ⟨hA, hZ, ws, ty, hP, hD, hr⟩ := id hR
  obtain ⟨-, i, hi⟩ := hr.1 k a fs ho
  refine va_put C.x C.b C.ts hin ty0 hty hnm C.ow C.K hP hD hS i hi hc j hj (C.ts _ hlink) hsame hfin (hty j hj) hn.1 hn.2 hl hdg fun H1 locs1 hP1 hD1 hS1 => ?_
  exact zset_end C hR hS1 (fun q1 q2 => zRep.setO q1 q2 hr ho hi hP1 hD1) b1 b2 (kk H1 locs1)
theorem z_putN (C : zC X d E own cc nL ret nm) (hR : zRep X g H) (hS : va_S (zA X) (zS E).heap H locs) {ref C1 host : String} {T : u_T} {N ci index k a : Nat} {fs : List Value} {v : Value} (ho : zGo g k a = some fs) (hk : zkc k = ci) (hc : zcl[ci]? = some (C1, T, N)) (hin : ∀ w ∈ u_ws C1 T N, w ∈ lw_all) (ty0 : Nat → FieldType) (hty : ∀ k, k < N → parseFieldDescriptor (T k).2.2.1 = some (ty0 k)) (hnm : ∀ a, a < N → ∀ b, b < N → a ≠ b → (T a).2.1 ≠ (T b).2.1) (j : Nat) (hj : j < N)
    (hlink : Cond.fieldLinkNest own index ref (T j).2.1 (T j).2.2.1 host ∈ lw_tbl) (hsame : ∀ x, (zS E).fieldFound? (T j).1 (T j).2.1 (T j).2.2.1 = some x → (zS E).fieldFound? ref (T j).2.1 (T j).2.2.1 = some x) (hfin : (T j).2.2.2 = false) (hn : narrow (ty0 j) v = v ∧ fits (ty0 j) v = true) (hl : j < fs.length) (hdg : decode cc pc = .ok (.putfield index, 3))
    (kk : ∀ (H1 : Heap) (locs1 : List Loc), zRep X (zSo g k a (fs.set j v)) H1 → va_S (zA X) (zS E).heap H1 locs1 → zV X E H1 locs1 (F0 (zm E) (pc + 3) ls rest)) : zV X E H locs (F0 (zm E) pc ls (v :: .ref a :: rest)) := by
  subst hk
  refine zV.bound fun b1 b2 => ?_
  obtain ⟨hA, hZ, ws, ty, hP, hD, hr⟩ := id hR
  obtain ⟨-, i, hi⟩ := hr.1 k a fs ho
  refine va_putN C.x C.b C.ts hin ty0 hty hnm C.ow C.K hP hD hS i hi hc j hj (C.nestF hlink) hsame hfin (hty j hj) hn.1 hn.2 hl hdg fun H1 locs1 hP1 hD1 hS1 => ?_
  exact zset_end C hR hS1 (fun q1 q2 => zRep.setO q1 q2 hr ho hi hP1 hD1) b1 b2 (kk H1 locs1)
theorem z_putF (C : zC X d E own cc nL ret nm) (hR : zRep X g H) (hS : va_S (zA X) (zS E).heap H locs) {ref C1 : String} {T : u_T} {N ci index k a : Nat} {fs : List Value} {v : Value} (ho : zGo g k a = some fs) (hk : zkc k = ci) (hc : zcl[ci]? = some (C1, T, N)) (hin : ∀ w ∈ u_ws C1 T N, w ∈ lw_all) (ty0 : Nat → FieldType) (hty : ∀ k, k < N → parseFieldDescriptor (T k).2.2.1 = some (ty0 k)) (hnm : ∀ a, a < N → ∀ b, b < N → a ≠ b → (T a).2.1 ≠ (T b).2.1) (j : Nat) (hj : j < N)
    (hlink : Cond.fieldLink own index ref (T j).2.1 (T j).2.2.1 ∈ lw_all) (hsame : ∀ x, (zS E).fieldFound? (T j).1 (T j).2.1 (T j).2.2.1 = some x → (zS E).fieldFound? ref (T j).2.1 (T j).2.2.1 = some x) (hfin : (T j).2.2.2 = true) (hnn : nm = "<init>") (hdecl : (T j).1 = own) (hn : narrow (ty0 j) v = v ∧ fits (ty0 j) v = true) (hl : j < fs.length) (hdg : decode cc pc = .ok (.putfield index, 3))
    (kk : ∀ (H1 : Heap) (locs1 : List Loc), zRep X (zSo g k a (fs.set j v)) H1 → va_S (zA X) (zS E).heap H1 locs1 → zV X E H1 locs1 (F0 (zm E) (pc + 3) ls rest)) : zV X E H locs (F0 (zm E) pc ls (v :: .ref a :: rest)) := by
  subst hk
  refine zV.bound fun b1 b2 => ?_
  obtain ⟨hA, hZ, ws, ty, hP, hD, hr⟩ := id hR
  obtain ⟨-, i, hi⟩ := hr.1 k a fs ho
  refine va_putF C.x C.b C.ts hin ty0 hty hnm C.ow C.K hP hD hS i hi hc j hj (C.ts _ hlink) hsame hfin (C.na.trans hnn) hdecl (hty j hj) hn.1 hn.2 hl hdg fun H1 locs1 hP1 hD1 hS1 => ?_
  exact zset_end C hR hS1 (fun q1 q2 => zRep.setO q1 q2 hr ho hi hP1 hD1) b1 b2 (kk H1 locs1)
theorem z_iald (C : zC X d E own cc nL ret nm) (hR : zRep X g H) {t a n : Nat} {f : Nat → Int32} (ho : zGi g t a = some (n, f)) (ht : t < 100) {i : Int32} (hin : vp_in i n) (hdg : decode cc pc = .ok (.iaload, 1))
    (kk : zV X E H locs (F0 (zm E) (pc + 1) ls (.int (f i.toNatClampNeg) :: rest))) : zV X E H locs (F0 (zm E) pc ls (.int i :: .ref a :: rest)) := by
  obtain ⟨ws, q, hP, hD, hi⟩ := hR.ws_i ho
  rw [show ztI t = 0 from if_pos ht] at hi
  exact va_iald C.x C.b C.K hP q 0 hi rfl hin hdg kk
theorem z_zald (C : zC X d E own cc nL ret nm) (hR : zRep X g H) {t a n : Nat} {f : Nat → Int32} (ho : zGi g t a = some (n, f)) (ht : ¬ t < 100) {i : Int32} (hin : vp_in i n) (hdg : decode cc pc = .ok (.baload, 1))
    (kk : zV X E H locs (F0 (zm E) (pc + 1) ls (.int (f i.toNatClampNeg) :: rest))) : zV X E H locs (F0 (zm E) pc ls (.int i :: .ref a :: rest)) := by
  obtain ⟨ws, q, hP, hD, hi⟩ := hR.ws_i ho
  rw [show ztI t = 1 from if_neg ht] at hi
  exact va_zald C.x C.b C.K hP q 1 hi rfl hin hdg kk
theorem z_lald (C : zC X d E own cc nL ret nm) (hR : zRep X g H) {t a n : Nat} {f : Nat → Int64} (ho : zGj g t a = some (n, f)) {i : Int32} (hin : vp_in i n) (hdg : decode cc pc = .ok (.laload, 1))
    (kk : zV X E H locs (F0 (zm E) (pc + 1) ls (.long (f i.toNatClampNeg) :: rest))) : zV X E H locs (F0 (zm E) pc ls (.int i :: .ref a :: rest)) := by
  obtain ⟨ws, q, hP, hD, hi⟩ := hR.ws_j ho
  exact va_lald C.x C.b C.K hP q 2 hi rfl hin hdg kk
theorem z_iast (C : zC X d E own cc nL ret nm) (hR : zRep X g H) (hS : va_S (zA X) (zS E).heap H locs) {t a n : Nat} {f : Nat → Int32} (ho : zGi g t a = some (n, f)) (ht : t < 100) {i x : Int32} (hin : vp_in i n) (hdg : decode cc pc = .ok (.iastore, 1))
    (kk : ∀ (H1 : Heap) (locs1 : List Loc), zRep X (zSi g t a n (upd f i.toNatClampNeg x)) H1 → va_S (zA X) (zS E).heap H1 locs1 → zV X E H1 locs1 (F0 (zm E) (pc + 1) ls rest)) : zV X E H locs (F0 (zm E) pc ls (.int x :: .int i :: .ref a :: rest)) := by
  refine zV.bound fun b1 b2 => ?_
  obtain ⟨hA, hZ, ws, ty, hP, hD, hr⟩ := id hR
  obtain ⟨-, q, hi⟩ := hr.2.1 t a n f ho
  have ht0 : ztI t = 0 := if_pos ht
  refine va_iast C.x C.b C.K hP hD hS q 0 (cA := zcA X 0) (by rw [← ht0]; exact hi) rfl hin hdg fun H1 locs1 hP1 hD1 hS1 => ?_
  rw [← ht0] at hP1 hD1
  exact zset_end C hR hS1 (fun q1 q2 => zRep.setI q1 q2 hr ho hi hP1 hD1) b1 b2 (kk H1 locs1)
theorem z_zast (C : zC X d E own cc nL ret nm) (hR : zRep X g H) (hS : va_S (zA X) (zS E).heap H locs) {t a n : Nat} {f : Nat → Int32} (ho : zGi g t a = some (n, f)) (ht : ¬ t < 100) {i x : Int32} (hin : vp_in i n) (hdg : decode cc pc = .ok (.bastore, 1))
    (kk : ∀ (H1 : Heap) (locs1 : List Loc), zRep X (zSi g t a n (upd f i.toNatClampNeg (vp_nar .boolean x))) H1 → va_S (zA X) (zS E).heap H1 locs1 → zV X E H1 locs1 (F0 (zm E) (pc + 1) ls rest)) : zV X E H locs (F0 (zm E) pc ls (.int x :: .int i :: .ref a :: rest)) := by
  refine zV.bound fun b1 b2 => ?_
  obtain ⟨hA, hZ, ws, ty, hP, hD, hr⟩ := id hR
  obtain ⟨-, q, hi⟩ := hr.2.1 t a n f ho
  have ht0 : ztI t = 1 := if_neg ht
  refine va_zast C.x C.b C.K hP hD hS q 1 (cA := zcA X 1) (by rw [← ht0]; exact hi) rfl hin hdg fun H1 locs1 hP1 hD1 hS1 => ?_
  rw [← ht0] at hP1 hD1
  exact zset_end C hR hS1 (fun q1 q2 => zRep.setI q1 q2 hr ho hi hP1 hD1) b1 b2 (kk H1 locs1)
theorem z_last (C : zC X d E own cc nL ret nm) (hR : zRep X g H) (hS : va_S (zA X) (zS E).heap H locs) {t a n : Nat} {f : Nat → Int64} (ho : zGj g t a = some (n, f)) {i : Int32} {x : Int64} (hin : vp_in i n) (hdg : decode cc pc = .ok (.lastore, 1))
    (kk : ∀ (H1 : Heap) (locs1 : List Loc), zRep X (zSj g t a n (vp_updL f i.toNatClampNeg x)) H1 → va_S (zA X) (zS E).heap H1 locs1 → zV X E H1 locs1 (F0 (zm E) (pc + 1) ls rest)) : zV X E H locs (F0 (zm E) pc ls (.long x :: .int i :: .ref a :: rest)) := by
  refine zV.bound fun b1 b2 => ?_
  obtain ⟨hA, hZ, ws, ty, hP, hD, hr⟩ := id hR
  obtain ⟨-, q, hi⟩ := hr.2.2.2 t a n f ho
  refine va_last C.x C.b C.K hP hD hS q 2 hi rfl hin hdg fun H1 locs1 hP1 hD1 hS1 => ?_
  exact zset_end C hR hS1 (fun q1 q2 => zRep.setJ q1 q2 hr ho hi hP1 hD1) b1 b2 (kk H1 locs1)
end ZROW
