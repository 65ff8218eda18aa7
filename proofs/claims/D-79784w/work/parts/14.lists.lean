set_option maxRecDepth 100000
section ZS
variable {X : zX} {d : Nat} {E : zM} {own : String} {cc : ByteArray} {nL : Nat} {ret : Option FieldType} {nm : String} {g : zG} {H : Heap} {locs : List Loc} {ls : Array Slot} {pc : Nat} {rest st0 : List Value} {lc : List (Nat × Value)} {K : Option Value → zG → Prop} {KX : String → zG → Prop}
theorem zC.kp (C : zC X d E own cc nL ret nm) : ∀ a : Nat, a < (zs X).heap.size → ¬ zA X a → (zS E).heap[a]? = (zs X).heap[a]? := fun a h _ => C.old a h
theorem zC.st (C : zC X d E own cc nL ret nm) : zSt X (zS E) := by
  obtain ⟨h1, h2, ⟨t, h3, h4⟩, h5, ⟨h6, h7⟩, ⟨h8, h9⟩, h10, ⟨h11, h12, h18, h19⟩, ⟨h13, h14⟩, ⟨a1, h15⟩, ⟨a2, h16⟩, ⟨a3, h17⟩⟩ := C.ok.2.2.2
  have hv := C.wm.alike
  exact ⟨(va_En.moved hv h1).kept C.kp, (vb_C.moved hv h2).kept C.kp, ⟨t, (va_Z.moved hv h3).kept C.kp, (va_T.moved hv h4).kept C.kp⟩, (va_Z.moved hv h5).kept C.kp, ⟨(va_Z.moved hv h6).kept C.kp, (va_T.moved hv h7).kept C.kp⟩, ⟨(va_Z.moved hv h8).kept C.kp, (va_T.moved hv h9).kept C.kp⟩, h10, ⟨va_Mi.moved hv h11, va_Mi.moved hv h12, (va_O.moved hv h18).kept C.kp, (va_O.moved hv h19).kept C.kp⟩, ⟨(vx_Zq.moved hv h13).kept C.kp, (vx_Zq.moved hv h14).kept C.kp⟩, ⟨a1, vk_R.warm C.wm h15⟩, ⟨a2, vk_R.warm C.wm h16⟩, ⟨a3, vk_R.warm C.wm h17⟩⟩
/-- a constant of the enum -/
theorem z_getsE (C : zC X d E own cc nL ret nm) (hS : va_S (zA X) (zS E).heap H locs) {index : Nat} (i : Nat) (hi : i < 12) (hlink : Cond.fieldLink own index "LogGrammar$Sort" (znm.getD i "") "LLogGrammar$Sort;" ∈ lw_all) (hdg : decode cc pc = .ok (.getstatic index, 3))
    (kk : zV X E H locs (F0 (zm E) (pc + 3) ls (.ref (zE X i) :: rest))) : zV X E H locs (F0 (zm E) pc ls rest) :=
  va_gets C.x C.b (C.st.1.1 i hi).1 hS C.ow (C.ts _ hlink) (fun _ h => h) hdg kk
theorem z_gets1 (C : zC X d E own cc nL ret nm) (hS : va_S (zA X) (zS E).heap H locs) {index : Nat} (hlink : Cond.fieldLink own index "java/util/ArrayList" "EMPTY_ELEMENTDATA" "[Ljava/lang/Object;" ∈ lw_all) (hdg : decode cc pc = .ok (.getstatic index, 3))
    (kk : zV X E H locs (F0 (zm E) (pc + 3) ls (.ref (ze1 X) :: rest))) : zV X E H locs (F0 (zm E) pc ls rest) :=
  va_gets C.x C.b C.st.2.2.2.2.1.1 hS C.ow (C.ts _ hlink) (fun _ h => h) hdg kk
theorem z_gets2 (C : zC X d E own cc nL ret nm) (hS : va_S (zA X) (zS E).heap H locs) {index : Nat} (hlink : Cond.fieldLink own index "java/util/ArrayList" "DEFAULTCAPACITY_EMPTY_ELEMENTDATA" "[Ljava/lang/Object;" ∈ lw_all) (hdg : decode cc pc = .ok (.getstatic index, 3))
    (kk : zV X E H locs (F0 (zm E) (pc + 3) ls (.ref (ze2 X) :: rest))) : zV X E H locs (F0 (zm E) pc ls rest) :=
  va_gets C.x C.b C.st.2.2.2.2.2.1.1 hS C.ow (C.ts _ hlink) (fun _ h => h) hdg kk
/-- the length of an array -/
def zlen (X : zX) (g : zG) (a n : Nat) : Prop := (∃ (t : Nat) (f : Nat → Option Nat), zGq g t a = some (n, f)) ∨ (∃ (t : Nat) (f : Nat → Int32), zGi g t a = some (n, f)) ∨ (n = 0 ∧ (a = ze1 X ∨ a = ze2 X))
theorem zty_ix (t : Nat) : (zty X)[ztQ t]? = some (zcA X (ztQ t), if t < 64 then .array .int else .object "java/lang/Object") := by
  unfold ztQ
  by_cases h : t < 64 <;> simp [h]
theorem zty_iy (t : Nat) : (zty X)[ztI t]? = some (zcA X (ztI t), if t < 100 then .int else .boolean) := by
  unfold ztI
  by_cases h : t < 100 <;> simp [h]
theorem z_alen (C : zC X d E own cc nL ret nm) (hR : zRep X g H) (hS : va_S (zA X) (zS E).heap H locs) {a n : Nat} (h : zlen X g a n) (hdg : decode cc pc = .ok (.arraylength, 1))
    (kk : zV X E H locs (F0 (zm E) (pc + 1) ls (.int (Int32.ofNat n) :: rest))) : zV X E H locs (F0 (zm E) pc ls (.ref a :: rest)) := by
  rcases h with ⟨t, f, ho⟩ | ⟨t, f, ho⟩ | ⟨rfl, rfl | rfl⟩
  · obtain ⟨ws, q, hP, hD, hi⟩ := hR.ws_q ho
    exact va_alen C.x C.b C.K hP q (ztQ t) hi (zty_ix t) rfl hdg kk
  · obtain ⟨ws, q, hP, hD, hi⟩ := hR.ws_i ho
    exact va_alen C.x C.b C.K hP q (ztI t) hi (zty_iy t) rfl hdg kk
  · exact va_tlen C.x C.b C.st.2.2.2.2.1.2 hS rfl hdg kk
  · exact va_tlen C.x C.b C.st.2.2.2.2.2.1.2 hS rfl hdg kk
theorem z_aald (C : zC X d E own cc nL ret nm) (hR : zRep X g H) {t a n : Nat} {f : Nat → Option Nat} (ho : zGq g t a = some (n, f)) {i : Int32} (hin : vp_in i n) (hdg : decode cc pc = .ok (.aaload, 1))
    (kk : zV X E H locs (F0 (zm E) (pc + 1) ls (va_rf (f i.toNatClampNeg) :: rest))) : zV X E H locs (F0 (zm E) pc ls (.int i :: .ref a :: rest)) := by
  obtain ⟨ws, q, hP, hD, hi⟩ := hR.ws_q ho
  have hlt : i.toNatClampNeg < n := Nat.not_le.mp fun q => hin (Or.inr q)
  exact W.aald (v := va_rf (f i.toNatClampNeg)) (ty := if t < 64 then .array .int else .object "java/lang/Object") C.x C.b (hP q _ hi) ((C.K.2 _ _ (zty_ix t)).1 n (fun j => va_rf (f j))) (by by_cases h : t < 64 <;> simp [h, FieldType.isReference]) (fun q => by cases q) (by show ¬ (i < 0 ∨ (arrV _ _ _).slots.size ≤ _); rw [arrV_size]; exact hin) (by show (arrV _ _ _).slots[_]? = _; rw [arrV_read _ _ hlt]) rfl rfl hdg kk
theorem zany_w (ci : Nat) (r : vw_C) (h12 : ci < 12) (h : zcl[ci]? = some r) : Cond.castable r.1 "java/lang/Object" ∈ lw_tbl := by
  match ci, h12, h with
  | 0, _, h => cases h; exact q2156
  | 1, _, h => cases h; exact q2155
  | 2, _, h => cases h; exact q2157
  | 3, _, h => cases h; exact q2158
  | 4, _, h => cases h; exact q2163
  | 5, _, h => cases h; exact q2166
  | 6, _, h => cases h; exact q2169
  | 7, _, h => cases h; exact q2171
  | 8, _, h => cases h; exact q2172
  | 9, _, h => cases h; exact q2173
  | 10, _, h => cases h; exact q2174
  | 11, _, h => cases h; exact q2167
  | k + 12, h12, _ => exact absurd h12 (by omega)
/-- an object, of whichever class -/
def zob (g : zG) (b : Nat) : Prop := ∃ ci : Nat, ci < 12 ∧ zIs g ci b
theorem zob.any (C : zC X d E own cc nL ret nm) (hR : zRep X g H) {b : Nat} (h : zob g b) : va_Any "java/lang/Object" (zS E) H b := by
  obtain ⟨ci, hci, k, fs, ho, hk⟩ := h
  subst hk
  obtain ⟨ws, i, hP, hD, hi⟩ := hR.ws_o ho
  have hr : ∃ r, zcl[zkc k]? = some r := ⟨_, List.getElem?_eq_getElem (show zkc k < zcl.length from Nat.lt_of_lt_of_le hci (by decide))⟩
  obtain ⟨r, hr⟩ := hr
  exact va_rAny C.K hP hi hr (vb_asgC (C.nestC (zany_w _ r hci hr)))
theorem z_aast (C : zC X d E own cc nL ret nm) (hR : zRep X g H) (hS : va_S (zA X) (zS E).heap H locs) {t a n v : Nat} {f : Nat → Option Nat} (ho : zGq g t a = some (n, f)) (ht : ¬ t < 64) {i : Int32} (hin : vp_in i n) (hv : zob g v) (hdg : decode cc pc = .ok (.aastore, 1))
    (kk : ∀ (H1 : Heap) (locs1 : List Loc), zRep X (zSq g t a n (va_up f i.toNatClampNeg (some v))) H1 → va_S (zA X) (zS E).heap H1 locs1 → zV X E H1 locs1 (F0 (zm E) (pc + 1) ls rest)) : zV X E H locs (F0 (zm E) pc ls (.ref v :: .int i :: .ref a :: rest)) := by
  refine zV.bound fun b1 b2 => ?_
  obtain ⟨hA, hZ, ws, ty, hP, hD, hr⟩ := id hR
  obtain ⟨-, q, hi⟩ := hr.2.2.1 t a n f ho
  have ht0 : ztQ t = 3 := if_neg ht
  refine va_astqM C.x C.b C.K hP hD hS q 3 (cA := zcA X 3) (by rw [← ht0]; exact hi) rfl (hv.any C hR) hin hdg fun H1 locs1 hP1 hD1 hS1 => ?_
  rw [← ht0] at hP1 hD1
  exact zset_end C hR hS1 (fun q1 q2 => zRep.setQ q1 q2 hr ho hi hP1 hD1) b1 b2 (kk H1 locs1)
theorem z_aastN (C : zC X d E own cc nL ret nm) (hR : zRep X g H) (hS : va_S (zA X) (zS E).heap H locs) {t a n : Nat} {f : Nat → Option Nat} (ho : zGq g t a = some (n, f)) (ht : ¬ t < 64) {i : Int32} (hin : vp_in i n) (hdg : decode cc pc = .ok (.aastore, 1))
    (kk : ∀ (H1 : Heap) (locs1 : List Loc), zRep X (zSq g t a n (va_up f i.toNatClampNeg none)) H1 → va_S (zA X) (zS E).heap H1 locs1 → zV X E H1 locs1 (F0 (zm E) (pc + 1) ls rest)) : zV X E H locs (F0 (zm E) pc ls (.null :: .int i :: .ref a :: rest)) := by
  refine zV.bound fun b1 b2 => ?_
  obtain ⟨hA, hZ, ws, ty, hP, hD, hr⟩ := id hR
  obtain ⟨-, q, hi⟩ := hr.2.2.1 t a n f ho
  have ht0 : ztQ t = 3 := if_neg ht
  refine va_astqN C.x C.b C.K hP hD hS q 3 (cA := zcA X 3) (by rw [← ht0]; exact hi) rfl hin hdg fun H1 locs1 hP1 hD1 hS1 => ?_
  rw [← ht0] at hP1 hD1
  exact zset_end C hR hS1 (fun q1 q2 => zRep.setQ q1 q2 hr ho hi hP1 hD1) b1 b2 (kk H1 locs1)
theorem z_newQ (C : zC X d E own cc nL ret nm) (hR : zRep X g H) (hS : va_S (zA X) (zS E).heap H locs) (t : Nat) (ht : ¬ t < 64) {index : Nat} (hcl : Cond.classLink own index "java/lang/Object" ∈ lw_all) {n : Int32} (hn : ¬ n < 0) (hb : n.toNatClampNeg ≤ 100000) (hz : zGz g + 1 + n.toNatClampNeg ≤ zz X) (hdg : decode cc pc = .ok (.anewarray index, 3))
    (kk : ∀ (q : Nat), zFr g q → ∀ (H1 : Heap), zRep X (zSz (zSq g t q n.toNatClampNeg (fun _ => none)) (zGz g + 1 + n.toNatClampNeg)) H1 → va_S (zA X) (zS E).heap H1 locs → zV X E H1 locs (F0 (zm E) (pc + 3) ls (.ref q :: rest))) : zV X E H locs (F0 (zm E) pc ls (.int n :: rest)) := by
  refine zV.bound fun b1 b2 => ?_
  obtain ⟨hA, hZ, ws, ty, hP, hD, hr⟩ := id hR
  obtain ⟨r1, r2⟩ := zroom C hR hz b1 b2
  have hAO : va_AO "java/lang/Object" (zS E) := va_AO.moved C.wm.alike (va_AO.of (C.ok.2.1 _ q233))
  have ht0 : ztQ t = 3 := if_neg ht
  refine va_newq C.x C.b C.ow (C.ts _ hcl) hAO C.K hP hD hS C.A hn rfl (by omega) r1 r2 hdg fun q cA H1 hK1 hP1 hD1 hS1 => ?_
  have hcA : cA = zcA X 3 := by
    obtain ⟨kA, comp, -, -, -, h1⟩ := (C.K.2 3 _ rfl).2
    obtain ⟨kA2, comp2, -, -, -, h2⟩ := (hK1.2 5 (cA, .object "java/lang/Object") rfl).2
    exact Option.some.inj (h2.symm.trans h1)
  subst hcA
  refine znew_end (g' := zSz (zSq g t q n.toNatClampNeg (fun _ => none)) (zGz g + 1 + n.toNatClampNeg)) C hR hz rfl hS1 (fun q1 q2 => ?_) b1 b2 (kk q (zRep.fresh (X := X) hr hD1) H1)
  obtain ⟨w1, w2, w3, w4⟩ := zRep.grow (X := X) (2, t) hr hD1
  refine ⟨q1, q2, _, _, hP1, hD1, w1, w2, fun t' a' n' f' h => ?_, w4⟩
  rcases zup_get h with ⟨rfl, rfl, e⟩ | ⟨-, h⟩
  · cases e
    exact ⟨if_pos rfl, ws.length, by rw [zws_new, ht0]⟩
  · exact w3 t' a' n' f' h
theorem z_copy (C : zC X (d + 1) E own cc nL ret nm) (hR : zRep X g H) (hS : va_S (zA X) (zS E).heap H locs) (hl : lv_has ls nL lc) {index : Nat} (hlink : Cond.methodLink own index arraycopyName ∈ lw_all) {t0 t1 a0 a n0 n1 : Nat} {f f1 : Nat → Option Nat} (ho : zGq g t0 a0 = some (n0, f)) (ho1 : zGq g t1 a = some (n1, f1)) (ht0 : ¬ t0 < 64) (ht1 : ¬ t1 < 64)
    {sp dp n : Int32} (h1 : ¬ sp < 0) (h2 : ¬ dp < 0) (h3 : ¬ n < 0) (h4 : sp.toNatClampNeg + n.toNatClampNeg ≤ n0) (h5 : dp.toNatClampNeg + n.toNatClampNeg ≤ n1) (hel : ∀ i : Nat, i < n.toNatClampNeg → ∀ y : Nat, f (sp.toNatClampNeg + i) = some y → zob g y) (hcat : (rest.map fun v => v.category).sum ≤ 8) (hdg : decode cc pc = .ok (.invokestatic index, 3))
    (kk : ∀ (H1 : Heap) (locs1 : List Loc), zRep X (zSq g t1 a n1 (va_cpy f f1 sp.toNatClampNeg dp.toNatClampNeg n.toNatClampNeg)) H1 → va_S (zA X) (zS E).heap H1 locs1 → zV X E H1 locs1 (F0 (zm E) (pc + 3) ls rest)) : zV X E H locs (F0 (zm E) pc ls (.int n :: .int dp :: .ref a :: .int sp :: .ref a0 :: rest)) := by
  refine zV.bound fun b1 b2 => ?_
  obtain ⟨hA, hZ, ws, ty, hP, hD, hr⟩ := id hR
  obtain ⟨-, q0, hi0⟩ := hr.2.2.1 t0 a0 n0 f ho
  obtain ⟨-, q1, hi1⟩ := hr.2.2.1 t1 a n1 f1 ho1
  have e0 : ztQ t0 = 3 := if_neg ht0
  have e1 : ztQ t1 = 3 := if_neg ht1
  have hfr := C.frames
  have hlo := C.locals
  have hnw : nativeFrameWords "java/lang/System" "arraycopy" 5 + 11 ≤ 50 := by decide +kernel
  refine va_copyM C.x C.b (C.ml.trans hl.1.symm) C.ow (C.ts _ hlink) (C.ts _ q240) (C.ts _ q239) (C.ts _ q81) C.K hP hD hS q0 q1 3 3 (c0 := zcA X 3) (c1 := zcA X 3) (by rw [← e0]; exact hi0) (by rw [← e1]; exact hi1) rfl rfl h1 h2 h3 h4 h5 (fun i hi y hy => (hel i hi y hy).any C hR) (by omega) (by omega) hdg fun H1 locs1 hP1 hD1 hS1 => ?_
  rw [← e1] at hP1 hD1
  exact zset_end C hR hS1 (fun q1 q2 => zRep.setQ q1 q2 hr ho1 hi1 hP1 hD1) b1 b2 (kk H1 locs1)
/-- a call through an object of a class of a method that it inherits -/
theorem lw_U {own : String} {idx : Nat} {C owner : String} {x y : MethodName} {b : ByteArray} {L : Nat} {r : Option FieldType} (h1 : Cond.methodLink own idx x ∈ lw_all) (h2 : Cond.sameMethod x.cls owner x.name x.desc ∈ lw_all) (h3 : Cond.selects C x y ∈ lw_all) (h4 : Cond.instanceMethod y ∈ lw_all) (h5 : Cond.initialized y.cls ∈ lw_all) (h6 : Cond.code y b L r ∈ lw_all) : GoodIn lw_all (va_wsU own idx C owner x y (ws_ y b L r)) := by
  refine lw_app ?_ (lw_meth h6)
  intro w hw
  simp only [List.mem_cons, List.not_mem_nil, or_false] at hw
  rcases hw with e | e | e | e | e
  · rw [e]; exact h1
  · rw [e]; exact h2
  · rw [e]; exact h3
  · rw [e]; exact h4
  · rw [e]; exact h5
theorem z_callU (C : zC X (d + 1) E own cc nL ret nm) (hR : zRep X g H) (hS : va_S (zA X) (zS E).heap H locs) (hl : lv_has ls nL lc) {C1 owner : String} {index maxL n b : Nat} {x y : MethodName} {bytes : ByteArray} {rt : Option FieldType} {As : List Value}
    (hb : ∃ cell : Cell, H[b]? = some cell ∧ cell.vm.isStatics = false ∧ (zS E).vm.findClass C1 = some cell.cls) (hw : GoodIn lw_all (va_wsU own index C1 owner x y (ws_ y bytes maxL rt))) (hyx : y = ⟨owner, x.name, x.desc⟩) (hd : owner ≠ "java/lang/invoke/MethodHandle" ∧ owner ≠ "java/lang/invoke/VarHandle" ∧ (parseMethodDescriptor x.desc).map (fun d => d.parameters.length) = some n) (hL : maxL ≤ 45) (hn : As.length = n)
    (hst : st0 = As.reverse ++ .ref b :: rest) (hcat : (rest.map fun v => v.category).sum ≤ 8) (hdg : decode cc pc = .ok (.invokevirtual index, 3))
    (hcal : zCal X d y (ws_ y bytes maxL rt) (.ref b :: As) g K KX) (hk : ∀ r g', K r g' → GW X E nL g' (pc + 3) lc (r.toList ++ rest)) (hx : ∀ x g', KX x g' → GX X E nL g' pc lc x) : zV X E H locs (F0 (zm E) pc ls st0) := by
  refine zV.bound fun b1 b2 => ?_
  obtain ⟨p1, p2⟩ := z_pre C hR (.ref b :: As)
  have hM := hcal (H.size + zsl H) (Nat.le_trans hR.2.1.1 hR.2.1.2)
  have cw := va_cwU (R := zR E) n C.ts hw rfl (hrc := rfl) (hrs := rfl) hyx hd (z_rm (c1 := zz X - (H.size + zsl H)) (s1 := zz X - (H.size + zsl H)) C hL)
  exact z_run C hS hl (vx_runU (As := As) (rest := rest) ⟨C.x, C.b, C.ml, C.ow, C.ts⟩ hM cw ⟨p1, hb, p2⟩ rfl hn hl.1 hst (lv_room hcat) hdg (z_fit C hR b1 b2)) hk hx
end ZS
