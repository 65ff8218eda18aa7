set_option maxRecDepth 100000
section ZNEW
variable {X : zX} {d : Nat} {E : zM} {own : String} {cc : ByteArray} {nL : Nat} {ret : Option FieldType} {nm : String} {g : zG} {H : Heap} {locs : List Loc} {ls : Array Slot} {pc : Nat} {rest : List Value}
theorem zRep.fresh {ws : va_W} {ty : Nat → Nat × Nat} {q : Nat} {e : va_E}
    (hr : (∀ k a fs, zGo g k a = some fs → ty a = (0, k) ∧ ∃ i : Nat, ws[i]? = some (a, .inr (zkc k, fs))) ∧
    (∀ t a n f, zGi g t a = some (n, f) → ty a = (1, t) ∧ ∃ i : Nat, ws[i]? = some (a, .inl (zcA X (ztI t), n, .inl f))) ∧
    (∀ t a n f, zGq g t a = some (n, f) → ty a = (2, t) ∧ ∃ i : Nat, ws[i]? = some (a, .inl (zcA X (ztQ t), n, .inr (.inr (.inr (.inr f)))))) ∧
    (∀ t a n f, zGj g t a = some (n, f) → ty a = (3, t) ∧ ∃ i : Nat, ws[i]? = some (a, .inl (zcA X 2, n, .inr (.inl f)))))
    (hD : va_D (zA X) (ws ++ [(q, e)])) : zFr g q := by
  obtain ⟨h1, h2, h3, h4⟩ := hr
  refine ⟨fun k => ?_, fun k => ?_, fun k => ?_, fun k => ?_⟩
  · cases h : zGo g k q with
    | none => rfl
    | some fs => obtain ⟨-, i, hi⟩ := h1 k q fs h; exact absurd rfl (zws_apart hD hi)
  · cases h : zGi g k q with
    | none => rfl
    | some fs => obtain ⟨-, i, hi⟩ := h2 k q fs.1 fs.2 h; exact absurd rfl (zws_apart hD hi)
  · cases h : zGq g k q with
    | none => rfl
    | some fs => obtain ⟨-, i, hi⟩ := h3 k q fs.1 fs.2 h; exact absurd rfl (zws_apart hD hi)
  · cases h : zGj g k q with
    | none => rfl
    | some fs => obtain ⟨-, i, hi⟩ := h4 k q fs.1 fs.2 h; exact absurd rfl (zws_apart hD hi)
theorem zRep.grow {ws : va_W} {ty : Nat → Nat × Nat} {q : Nat} {e : va_E} (tq : Nat × Nat)
    (hr : (∀ k a fs, zGo g k a = some fs → ty a = (0, k) ∧ ∃ i : Nat, ws[i]? = some (a, .inr (zkc k, fs))) ∧
    (∀ t a n f, zGi g t a = some (n, f) → ty a = (1, t) ∧ ∃ i : Nat, ws[i]? = some (a, .inl (zcA X (ztI t), n, .inl f))) ∧
    (∀ t a n f, zGq g t a = some (n, f) → ty a = (2, t) ∧ ∃ i : Nat, ws[i]? = some (a, .inl (zcA X (ztQ t), n, .inr (.inr (.inr (.inr f)))))) ∧
    (∀ t a n f, zGj g t a = some (n, f) → ty a = (3, t) ∧ ∃ i : Nat, ws[i]? = some (a, .inl (zcA X 2, n, .inr (.inl f)))))
    (hD : va_D (zA X) (ws ++ [(q, e)])) :
    (∀ k a fs, zGo g k a = some fs → (if a = q then tq else ty a) = (0, k) ∧ ∃ i : Nat, (ws ++ [(q, e)])[i]? = some (a, .inr (zkc k, fs))) ∧
    (∀ t a n f, zGi g t a = some (n, f) → (if a = q then tq else ty a) = (1, t) ∧ ∃ i : Nat, (ws ++ [(q, e)])[i]? = some (a, .inl (zcA X (ztI t), n, .inl f))) ∧
    (∀ t a n f, zGq g t a = some (n, f) → (if a = q then tq else ty a) = (2, t) ∧ ∃ i : Nat, (ws ++ [(q, e)])[i]? = some (a, .inl (zcA X (ztQ t), n, .inr (.inr (.inr (.inr f)))))) ∧
    (∀ t a n f, zGj g t a = some (n, f) → (if a = q then tq else ty a) = (3, t) ∧ ∃ i : Nat, (ws ++ [(q, e)])[i]? = some (a, .inl (zcA X 2, n, .inr (.inl f)))) := by
  obtain ⟨h1, h2, h3, h4⟩ := hr
  refine ⟨fun k a fs h => ?_, fun k a n f h => ?_, fun k a n f h => ?_, fun k a n f h => ?_⟩
  · obtain ⟨a1, i, hi⟩ := h1 k a fs h
    exact ⟨by rw [if_neg (zws_apart hD hi)]; exact a1, i, zws_old hi⟩
  · obtain ⟨a1, i, hi⟩ := h2 k a n f h
    exact ⟨by rw [if_neg (zws_apart hD hi)]; exact a1, i, zws_old hi⟩
  · obtain ⟨a1, i, hi⟩ := h3 k a n f h
    exact ⟨by rw [if_neg (zws_apart hD hi)]; exact a1, i, zws_old hi⟩
  · obtain ⟨a1, i, hi⟩ := h4 k a n f h
    exact ⟨by rw [if_neg (zws_apart hD hi)]; exact a1, i, zws_old hi⟩
/-- room for one cell of n slots more -/
theorem zroom (C : zC X d E own cc nL ret nm) (hR : zRep X g H) {n : Nat} (hz : zGz g + 1 + n ≤ zz X) (b1 : (zS E).heap.size ≤ H.size) (b2 : zsl (zS E).heap ≤ zsl H) : H.size - (zS E).heap.size + 1 ≤ (zR E).cells ∧ zsl H - zsl (zS E).heap + n ≤ (zR E).slots := by
  have h1 := hR.2.1.1
  have h2 := C.cells
  have h3 := C.slots
  unfold zms at h2 h3
  omega
theorem znew_end (C : zC X d E own cc nL ret nm) (hR : zRep X g H) {n : Nat} {g' : zG} {H1 : Heap} {locs1 : List Loc} {f : JFrame} (hz : zGz g + 1 + n ≤ zz X) (hg' : zGz g' = zGz g + 1 + n) (hS1 : va_S (zA X) (zS E).heap H1 locs1)
    (hg : (zs X).heap.size ≤ H1.size ∧ (∀ q : Nat, q < (zs X).heap.size → H1[q]? = (zs X).heap[q]?) → H1.size + zsl H1 ≤ zGz g' ∧ zGz g' ≤ zz X → zRep X g' H1) (h1 : (zS E).heap.size ≤ H.size) (h2 : zsl (zS E).heap ≤ zsl H)
    (kk : zRep X g' H1 → va_S (zA X) (zS E).heap H1 locs1 → zV X E H1 locs1 f) : zW X E H1 locs1 (H.size - (zS E).heap.size + 1) (zsl H - zsl (zS E).heap + n) f := by
  refine zw_bound fun q1 q2 q3 q4 => zw_tight ?_
  exact kk (hg (C.keep hS1) ⟨by have := hR.2.1.1; omega, by omega⟩) hS1
theorem z_new (C : zC X d E own cc nL ret nm) (hR : zRep X g H) (hS : va_S (zA X) (zS E).heap H locs) {C1 : String} {T : u_T} {N ci index : Nat} (k : Nat) (hk : zkc k = ci) (hc : zcl[ci]? = some (C1, T, N)) (hin : ∀ w ∈ u_ws C1 T N, w ∈ lw_all) (ty0 : Nat → FieldType) (hty : ∀ k, k < N → parseFieldDescriptor (T k).2.2.1 = some (ty0 k))
    (hcl : Cond.classLink own index C1 ∈ lw_all) (hinst : Cond.instantiable C1 N ∈ lw_all) (hini : Cond.initialized C1 ∈ lw_all) {fs : List Value} (hfs : ∀ j, j < N → defaultValue (ty0 j) = vp_V fs j) (hz : zGz g + 1 + N ≤ zz X) (hdg : decode cc pc = .ok (.new index, 3))
    (kk : ∀ (q : Nat), zFr g q → ∀ (H1 : Heap), zRep X (zSz (zSo g k q fs) (zGz g + 1 + N)) H1 → va_S (zA X) (zS E).heap H1 locs → zV X E H1 locs (F0 (zm E) (pc + 3) ls (.ref q :: rest))) : zV X E H locs (F0 (zm E) pc ls rest) := by
  subst hk
  refine zV.bound fun b1 b2 => ?_
  obtain ⟨hA, hZ, ws, ty, hP, hD, hr⟩ := id hR
  obtain ⟨r1, r2⟩ := zroom C hR hz b1 b2
  refine va_new C.x C.b C.ts hin ty0 hty C.ow (C.ts _ hcl) (C.ts _ hinst) (C.ts _ hini) C.K hP hD hS C.A hc hfs r1 r2 hdg fun q H1 hP1 hD1 hS1 => ?_
  refine znew_end (g' := zSz (zSo g k q fs) (zGz g + 1 + N)) C hR hz rfl hS1 (fun q1 q2 => ?_) b1 b2 (kk q (zRep.fresh (X := X) hr hD1) H1)
  obtain ⟨w1, w2, w3, w4⟩ := zRep.grow (X := X) (0, k) hr hD1
  refine ⟨q1, q2, _, _, hP1, hD1, fun k' a' fs' h => ?_, w2, w3, w4⟩
  rcases zup_get h with ⟨rfl, rfl, rfl⟩ | ⟨-, h⟩
  · exact ⟨if_pos rfl, ws.length, zws_new⟩
  · exact w1 k' a' fs' h
theorem z_newa_end {A : Nat → Prop} {ws : va_W} {tys : List (ClassId × FieldType)} {U : State} {ty : FieldType} {cA cA' : ClassId} {j : Nat} (hK : va_K (zD X) zcl (zty X) U) (hj : (zty X)[j]? = some (cA', ty)) (hp : va_RA U cA' ty = (U.vm.findClass ("[" ++ ty.toString) = some cA')) (hK1 : va_K (zD X) zcl (zty X ++ [(cA, ty)]) U) (hp2 : va_RA U cA ty = (U.vm.findClass ("[" ++ ty.toString) = some cA)) : cA = cA' := by
  have h1 := (hK.2 j _ hj).2
  have h2 := (hK1.2 5 (cA, ty) rfl).2
  simp only at h1 h2
  rw [hp] at h1
  rw [hp2] at h2
  exact Option.some.inj (h2.symm.trans h1)
theorem z_newI (C : zC X d E own cc nL ret nm) (hR : zRep X g H) (hS : va_S (zA X) (zS E).heap H locs) (t : Nat) (ht : t < 100) (harr : Cond.arrayClass .int ∈ lw_all) {n : Int32} (hn : ¬ n < 0) (hb : n.toNatClampNeg ≤ 100000) (hz : zGz g + 1 + n.toNatClampNeg ≤ zz X) (hdg : decode cc pc = .ok (.newarray .int, 2))
    (kk : ∀ (q : Nat), zFr g q → ∀ (H1 : Heap), zRep X (zSz (zSi g t q n.toNatClampNeg (fun _ => 0)) (zGz g + 1 + n.toNatClampNeg)) H1 → va_S (zA X) (zS E).heap H1 locs → zV X E H1 locs (F0 (zm E) (pc + 2) ls (.ref q :: rest))) : zV X E H locs (F0 (zm E) pc ls (.int n :: rest)) := by
  refine zV.bound fun b1 b2 => ?_
  obtain ⟨hA, hZ, ws, ty, hP, hD, hr⟩ := id hR
  obtain ⟨r1, r2⟩ := zroom C hR hz b1 b2
  refine va_newa (atype := .int) (a0 := (n.toNatClampNeg, .inl (fun _ => 0))) C.x C.b (C.ts _ harr) rfl C.K hP hD hS C.A (fun _ => rfl) hn rfl (by show n.toNatClampNeg * 4 ≤ 536870912; omega) r1 r2 hdg fun q cA H1 hK1 hP1 hD1 hS1 => ?_
  have hcA : cA = zcA X 0 := z_newa_end (A := zA X) (ws := ws) (tys := []) (ty := .int) (j := 0) C.K rfl rfl hK1 rfl
  subst hcA
  refine znew_end (g' := zSz (zSi g t q n.toNatClampNeg (fun _ => 0)) (zGz g + 1 + n.toNatClampNeg)) C hR hz rfl hS1 (fun q1 q2 => ?_) b1 b2 (kk q (zRep.fresh (X := X) hr hD1) H1)
  obtain ⟨w1, w2, w3, w4⟩ := zRep.grow (X := X) (1, t) hr hD1
  refine ⟨q1, q2, _, _, hP1, hD1, w1, fun t' a' n' f' h => ?_, w3, w4⟩
  rcases zup_get h with ⟨rfl, rfl, e⟩ | ⟨-, h⟩
  · cases e
    exact ⟨if_pos rfl, ws.length, by rw [zws_new, show ztI t' = 0 from if_pos ht]⟩
  · exact w2 t' a' n' f' h
theorem z_newZ (C : zC X d E own cc nL ret nm) (hR : zRep X g H) (hS : va_S (zA X) (zS E).heap H locs) (t : Nat) (ht : ¬ t < 100) (harr : Cond.arrayClass .boolean ∈ lw_all) {n : Int32} (hn : ¬ n < 0) (hb : n.toNatClampNeg ≤ 100000) (hz : zGz g + 1 + n.toNatClampNeg ≤ zz X) (hdg : decode cc pc = .ok (.newarray .boolean, 2))
    (kk : ∀ (q : Nat), zFr g q → ∀ (H1 : Heap), zRep X (zSz (zSi g t q n.toNatClampNeg (fun _ => 0)) (zGz g + 1 + n.toNatClampNeg)) H1 → va_S (zA X) (zS E).heap H1 locs → zV X E H1 locs (F0 (zm E) (pc + 2) ls (.ref q :: rest))) : zV X E H locs (F0 (zm E) pc ls (.int n :: rest)) := by
  refine zV.bound fun b1 b2 => ?_
  obtain ⟨hA, hZ, ws, ty, hP, hD, hr⟩ := id hR
  obtain ⟨r1, r2⟩ := zroom C hR hz b1 b2
  refine va_newa (atype := .boolean) (a0 := (n.toNatClampNeg, .inl (fun _ => 0))) C.x C.b (C.ts _ harr) rfl C.K hP hD hS C.A (fun _ => rfl) hn rfl (by show n.toNatClampNeg * 1 ≤ 536870912; omega) r1 r2 hdg fun q cA H1 hK1 hP1 hD1 hS1 => ?_
  have hcA : cA = zcA X 1 := z_newa_end (A := zA X) (ws := ws) (tys := []) (ty := .boolean) (j := 1) C.K rfl rfl hK1 rfl
  subst hcA
  refine znew_end (g' := zSz (zSi g t q n.toNatClampNeg (fun _ => 0)) (zGz g + 1 + n.toNatClampNeg)) C hR hz rfl hS1 (fun q1 q2 => ?_) b1 b2 (kk q (zRep.fresh (X := X) hr hD1) H1)
  obtain ⟨w1, w2, w3, w4⟩ := zRep.grow (X := X) (1, t) hr hD1
  refine ⟨q1, q2, _, _, hP1, hD1, w1, fun t' a' n' f' h => ?_, w3, w4⟩
  rcases zup_get h with ⟨rfl, rfl, e⟩ | ⟨-, h⟩
  · cases e
    exact ⟨if_pos rfl, ws.length, by rw [zws_new, show ztI t' = 1 from if_neg ht]⟩
  · exact w2 t' a' n' f' h
theorem z_newJ (C : zC X d E own cc nL ret nm) (hR : zRep X g H) (hS : va_S (zA X) (zS E).heap H locs) (t : Nat) (harr : Cond.arrayClass .long ∈ lw_all) {n : Int32} (hn : ¬ n < 0) (hb : n.toNatClampNeg ≤ 100000) (hz : zGz g + 1 + n.toNatClampNeg ≤ zz X) (hdg : decode cc pc = .ok (.newarray .long, 2))
    (kk : ∀ (q : Nat), zFr g q → ∀ (H1 : Heap), zRep X (zSz (zSj g t q n.toNatClampNeg (fun _ => 0)) (zGz g + 1 + n.toNatClampNeg)) H1 → va_S (zA X) (zS E).heap H1 locs → zV X E H1 locs (F0 (zm E) (pc + 2) ls (.ref q :: rest))) : zV X E H locs (F0 (zm E) pc ls (.int n :: rest)) := by
  refine zV.bound fun b1 b2 => ?_
  obtain ⟨hA, hZ, ws, ty, hP, hD, hr⟩ := id hR
  obtain ⟨r1, r2⟩ := zroom C hR hz b1 b2
  refine va_newa (atype := .long) (a0 := (n.toNatClampNeg, .inr (.inl (fun _ => 0)))) C.x C.b (C.ts _ harr) rfl C.K hP hD hS C.A (fun _ => rfl) hn rfl (by show n.toNatClampNeg * 8 ≤ 536870912; omega) r1 r2 hdg fun q cA H1 hK1 hP1 hD1 hS1 => ?_
  have hcA : cA = zcA X 2 := z_newa_end (A := zA X) (ws := ws) (tys := []) (ty := .long) (j := 2) C.K rfl rfl hK1 rfl
  subst hcA
  refine znew_end (g' := zSz (zSj g t q n.toNatClampNeg (fun _ => 0)) (zGz g + 1 + n.toNatClampNeg)) C hR hz rfl hS1 (fun q1 q2 => ?_) b1 b2 (kk q (zRep.fresh (X := X) hr hD1) H1)
  obtain ⟨w1, w2, w3, w4⟩ := zRep.grow (X := X) (3, t) hr hD1
  refine ⟨q1, q2, _, _, hP1, hD1, w1, w2, w3, fun t' a' n' f' h => ?_⟩
  rcases zup_get h with ⟨rfl, rfl, e⟩ | ⟨-, h⟩
  · cases e
    exact ⟨if_pos rfl, ws.length, zws_new⟩
  · exact w4 t' a' n' f' h
end ZNEW
section ZCALL
variable {X : zX} {d : Nat} {E : zM} {own : String} {cc : ByteArray} {nL : Nat} {ret : Option FieldType} {nm : String} {g : zG} {H : Heap} {locs : List Loc} {ls : Array Slot} {pc : Nat} {rest st0 : List Value} {lc : List (Nat × Value)} {K : Option Value → zG → Prop} {KX : String → zG → Prop}
abbrev zQa (X : zX) (K : Option Value → zG → Prop) : State → Outcome → State → Prop := fun st o t => (∃ (r : Option Value) (g' : zG), o = .returned r ∧ zRep X g' t.heap ∧ K r g') ∧ st.heap.size ≤ t.heap.size
abbrev zQx (X : zX) (KX : String → zG → Prop) : String → State → State → Prop := fun x st t => (∃ g' : zG, zRep X g' t.heap ∧ KX x g') ∧ st.heap.size ≤ t.heap.size
theorem z_back (C : zC X d E own cc nL ret nm) {H1 : Heap} {locs : List Loc} {L : List Loc} (hR : zRep X g H1) (hS : va_S (zA X) (zS E).heap H locs) (hz : H.size ≤ H1.size) (hL : ∀ q ∈ L, zA X q.base) : va_S (zA X) (zS E).heap H1 (locs ++ L) := by
  refine ⟨Nat.le_trans hS.1 hz, fun q h1 h2 => ?_, fun q hq => ?_⟩
  · have h3 : q < (zs X).heap.size := Nat.not_le.mp h2
    rw [hR.1.2 q h3, C.old q h3]
  · rcases List.mem_append.mp hq with h | h
    · exact hS.2.2 q h
    · exact hL q h
theorem z_run (C : zC X d E own cc nL ret nm) (hS : va_S (zA X) (zS E).heap H locs) (hl : lv_has ls nL lc) {mc ms cells slots : Nat}
    (hr : vx_Run (zp E) (zl X) (ze E) (zR E) (zS E) (zm E) (za E) (zb E) (zh E) (zc E) H locs cells slots mc ms (F0 (zm E) pc ls st0) rest (zQa X K) (zQx X KX) (zA X))
    (hk : ∀ r g', K r g' → GW X E nL g' (pc + 3) lc (r.toList ++ rest)) (hx : ∀ x g', KX x g' → GX X E nL g' pc lc x) : zW X E H locs cells slots (F0 (zm E) pc ls st0) := by
  intro T hT X1
  rcases hr T hT X1 with ⟨v, st₀, t, T', L, h0, X', hL, e1, e2, ⟨⟨r, g', hv, hR', hK⟩, hz⟩, st⟩ | ⟨q, st₀, t, T', L, x, ce, h0, X', hL, e1, e2, ⟨⟨g', hR', hK⟩, hz⟩, hce, hcv, hcl, st⟩
  · cases hv
    rw [← e1] at hR' hz
    rw [h0] at hz
    have h := hk v g' hK T'.heap (locs ++ L) ls hR' (z_back C hR' hS hz hL) hl
    obtain ⟨t2, a1, b1⟩ := zw_tight (cells := cells + mc) (slots := slots + ms) h T' rfl X'
    exact ⟨t2, st t2 a1, b1⟩
  · rw [← e1] at hR' hz hce
    rw [h0] at hz
    have h := hx x g' hK T'.heap (locs ++ L) ls rest q ce hR' (z_back C hR' hS hz hL) hl hce hcv hcl
    obtain ⟨t2, a1, b1⟩ := zx_tight (cells := cells + mc) (slots := slots + ms) h T' rfl X'
    exact ⟨t2, st.trans a1, b1⟩
/-- the start of a callee -/
theorem z_pre (C : zC X d E own cc nL ret nm) (hR : zRep X g H) (as : List Value) : FrameBlind (va_Pc as (fun U => zms U = H.size + zsl H ∧ (zs X).WarmedH U.vm ∧ zRep X g U.heap)) ∧ ∀ U : State, U.heap = H → (zS E).WarmedH U.vm → va_Pc as (fun U => zms U = H.size + zsl H ∧ (zs X).WarmedH U.vm ∧ zRep X g U.heap) as.toArray U := by
  refine ⟨fun a U g2 mk q => ?_, fun U hU hW => ⟨rfl, by unfold zms; rw [hU], C.wm.trans hW, by rw [hU]; exact hR⟩⟩
  obtain ⟨q1, q2, q3, q4⟩ := q
  exact ⟨q1, q2, q3, q4⟩
theorem z_fit (C : zC X d E own cc nL ret nm) (hR : zRep X g H) (b1 : (zS E).heap.size ≤ H.size) (b2 : zsl (zS E).heap ≤ zsl H) : H.size - (zS E).heap.size + (zz X - (H.size + zsl H)) ≤ (zR E).cells ∧ zsl H - zsl (zS E).heap + (zz X - (H.size + zsl H)) ≤ (zR E).slots := by
  have h1 := hR.2.1
  have h2 := C.cells
  have h3 := C.slots
  unfold zms at h2 h3
  omega
theorem z_rm (C : zC X (d + 1) E own cc nL ret nm) {maxL c1 s1 : Nat} (h : maxL ≤ 45) : ({ frames := d, cells := c1, slots := s1, locals := 64 * d } : Room).frames + 1 ≤ (zR E).frames ∧ 8 + (maxL + 11) + ({ frames := d, cells := c1, slots := s1, locals := 64 * d } : Room).locals ≤ (zR E).locals := by
  have h1 := C.frames
  have h2 := C.locals
  constructor
  · exact h1
  · show 8 + (maxL + 11) + 64 * d ≤ _
    omega
/-- an object whose class is ci -/
def zIs (g : zG) (ci b : Nat) : Prop := ∃ (k : Nat) (fs : List Value), zGo g k b = some fs ∧ zkc k = ci
theorem zIs.recv (C : zC X d E own cc nL ret nm) (hR : zRep X g H) {ci b N : Nat} {C1 : String} {T : u_T} (h : zIs g ci b) (hc : zcl[ci]? = some (C1, T, N)) : ∃ cell : Cell, H[b]? = some cell ∧ cell.vm.isStatics = false ∧ (zS E).vm.findClass C1 = some cell.cls := by
  obtain ⟨k, fs, ho, hk⟩ := h
  subst hk
  obtain ⟨ws, i, hP, hD, hi⟩ := hR.ws_o ho
  exact va_recv C.K hP hc hi
theorem z_callV (C : zC X (d + 1) E own cc nL ret nm) (hR : zRep X g H) (hS : va_S (zA X) (zS E).heap H locs) (hl : lv_has ls nL lc) {C1 : String} {T : u_T} {N ci index maxL n b : Nat} {y : MethodName} {bytes : ByteArray} {rt : Option FieldType} {As : List Value}
    (hb : zIs g ci b) (hc : zcl[ci]? = some (C1, T, N)) (hw : GoodIn lw_all (wsV own index C1 y (ws_ y bytes maxL rt))) (hd : y.cls = C1 ∧ y.cls ≠ "java/lang/invoke/MethodHandle" ∧ y.cls ≠ "java/lang/invoke/VarHandle" ∧ (parseMethodDescriptor y.desc).map (fun d => d.parameters.length) = some n) (hL : maxL ≤ 45) (hn : As.length = n)
    (hst : st0 = As.reverse ++ .ref b :: rest) (hcat : (rest.map fun v => v.category).sum ≤ 8) (hdg : decode cc pc = .ok (.invokevirtual index, 3))
    (hcal : zCal X d y (ws_ y bytes maxL rt) (.ref b :: As) g K KX) (hk : ∀ r g', K r g' → GW X E nL g' (pc + 3) lc (r.toList ++ rest)) (hx : ∀ x g', KX x g' → GX X E nL g' pc lc x) : zV X E H locs (F0 (zm E) pc ls st0) := by
  refine zV.bound fun b1 b2 => ?_
  obtain ⟨p1, p2⟩ := z_pre C hR (.ref b :: As)
  have hM := hcal (H.size + zsl H) (Nat.le_trans hR.2.1.1 hR.2.1.2)
  have cw := cwV (R := zR E) n C.ts hw rfl (hrc := rfl) (hrs := rfl) hd (z_rm (c1 := zz X - (H.size + zsl H)) (s1 := zz X - (H.size + zsl H)) C hL)
  exact z_run C hS hl (vx_runV (As := As) (rest := rest) ⟨C.x, C.b, C.ml, C.ow, C.ts⟩ hM cw ⟨p1, hb.recv C hR hc, p2⟩ rfl hn hl.1 hst (lv_room hcat) hdg (z_fit C hR b1 b2)) hk hx
theorem z_callS (C : zC X (d + 1) E own cc nL ret nm) (hR : zRep X g H) (hS : va_S (zA X) (zS E).heap H locs) (hl : lv_has ls nL lc) {index maxL n : Nat} {y : MethodName} {bytes : ByteArray} {rt : Option FieldType} {As : List Value}
    (hw : GoodIn lw_all (va_wsS own index y (ws_ y bytes maxL rt))) (hd : y.cls ≠ "java/lang/invoke/MethodHandle" ∧ y.cls ≠ "java/lang/invoke/VarHandle" ∧ (parseMethodDescriptor y.desc).map (fun d => d.parameters.length) = some n) (hL : maxL ≤ 45) (hn : As.length = n)
    (hst : st0 = As.reverse ++ rest) (hcat : (rest.map fun v => v.category).sum ≤ 8) (hdg : decode cc pc = .ok (.invokestatic index, 3))
    (hcal : zCal X d y (ws_ y bytes maxL rt) As g K KX) (hk : ∀ r g', K r g' → GW X E nL g' (pc + 3) lc (r.toList ++ rest)) (hx : ∀ x g', KX x g' → GX X E nL g' pc lc x) : zV X E H locs (F0 (zm E) pc ls st0) := by
  refine zV.bound fun b1 b2 => ?_
  obtain ⟨p1, p2⟩ := z_pre C hR As
  have hM := hcal (H.size + zsl H) (Nat.le_trans hR.2.1.1 hR.2.1.2)
  have cw := va_cwS (R := zR E) n C.ts hw rfl (hrc := rfl) (hrs := rfl) hd (z_rm (c1 := zz X - (H.size + zsl H)) (s1 := zz X - (H.size + zsl H)) C hL)
  exact z_run C hS hl (vx_runS (As := As) (rest := rest) ⟨C.x, C.b, C.ml, C.ow, C.ts⟩ hM cw ⟨p1, p2⟩ rfl hn hl.1 hst (lv_room hcat) hdg (z_fit C hR b1 b2)) hk hx
theorem z_callI (C : zC X (d + 1) E own cc nL ret nm) (hR : zRep X g H) (hS : va_S (zA X) (zS E).heap H locs) (hl : lv_has ls nL lc) {index maxL n b : Nat} {y : MethodName} {bytes : ByteArray} {As : List Value}
    (hw : GoodIn lw_all (ws_ y bytes maxL none)) (hini : Cond.initialized y.cls ∈ lw_all) (hlk : Cond.methodLink own index y ∈ lw_all) (him : Cond.instanceMethod y ∈ lw_all) (hy : y.name = "<init>") (hd : y.cls ≠ "java/lang/invoke/MethodHandle" ∧ y.cls ≠ "java/lang/invoke/VarHandle" ∧ (parseMethodDescriptor y.desc).map (fun d => d.parameters.length) = some n) (hL : maxL ≤ 45) (hn : As.length = n)
    (hst : st0 = As.reverse ++ .ref b :: rest) (hcat : (rest.map fun v => v.category).sum ≤ 8) (hdg : decode cc pc = .ok (.invokespecial index, 3))
    (hcal : zCal X d y (ws_ y bytes maxL none) (.ref b :: As) g K KX) (hk : ∀ r g', K r g' → GW X E nL g' (pc + 3) lc (r.toList ++ rest)) (hx : ∀ x g', KX x g' → GX X E nL g' pc lc x) : zV X E H locs (F0 (zm E) pc ls st0) := by
  refine zV.bound fun b1 b2 => ?_
  obtain ⟨p1, p2⟩ := z_pre C hR (.ref b :: As)
  have hM := hcal (H.size + zsl H) (Nat.le_trans hR.2.1.1 hR.2.1.2)
  have cw := cwI (R := zR E) n C.ts hw rfl (hrc := rfl) (hrs := rfl) (C.ts _ hini) (C.ts _ hlk) (C.ts _ him) hy hd (z_rm (c1 := zz X - (H.size + zsl H)) (s1 := zz X - (H.size + zsl H)) C hL)
  exact z_run C hS hl (vx_runI (As := As) (rest := rest) ⟨C.x, C.b, C.ml, C.ow, C.ts⟩ hM cw ⟨p1, p2⟩ rfl hn hl.1 hst (lv_room hcat) hdg (z_fit C hR b1 b2)) hk hx
end ZCALL
