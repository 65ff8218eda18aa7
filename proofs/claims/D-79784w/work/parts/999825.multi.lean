set_option maxRecDepth 100000
/-! a row for arrays of int arrays, made at once -/
def zSm (g : zG) (i q n : Nat) : zG := (g.1, (fun t' a' => if t' = 52 + i ∧ q < a' ∧ a' ≤ q + n then some (80, fun _ => 0) else g.2.1 t' a'), zup g.2.2.1 i q (n, fun j => if j < n then some (q + 1 + j) else none), g.2.2.2.1, g.2.2.2.2 + 1 + 82 * n)
theorem zSm_o (g : zG) (i q n : Nat) : zGo (zSm g i q n) = zGo g := rfl
theorem zSm_j (g : zG) (i q n : Nat) : zGj (zSm g i q n) = zGj g := rfl
theorem zSm_q (g : zG) (i q n : Nat) : zGq (zSm g i q n) = zup (zGq g) i q (n, fun j => if j < n then some (q + 1 + j) else none) := rfl
theorem zSm_i (g : zG) (i q n t' a' : Nat) : zGi (zSm g i q n) t' a' = if t' = 52 + i ∧ q < a' ∧ a' ≤ q + n then some (80, fun _ => 0) else zGi g t' a' := rfl
theorem zSm_z (g : zG) (i q n : Nat) : zGz (zSm g i q n) = zGz g + 1 + 82 * n := rfl
theorem zAO_moved {A A' : Array Value} {u U : State} (hvm : u.vm.Alike U.vm) (h : (Cond.arrayOver (.array .int)).before A u = true) : (Cond.arrayOver (.array .int)).before A' U = true := by
  simp only [Cond.before, Cond.holds, Cond.value, beq_iff_eq] at h ⊢
  cases hc : u.vm.findClass (FieldType.array .int).toString with
  | none => simp [hc] at h
  | some comp =>
    simp only [hc, Option.bind_some, Option.bind_eq_some_iff, Option.map_eq_some_iff] at h
    obtain ⟨c, hi, k, hk, hb⟩ := h
    obtain ⟨k', hk', he⟩ := hvm.2.2 _ _ hk
    have f1 : U.vm.findClass (FieldType.array .int).toString = some comp := by rw [hvm.findClass]; exact hc
    have hbare : U.vm.bare = u.vm.bare := by first | exact hvm.bare_eq | exact hvm.bare_eq.symm
    have hi' : (U.vm.classes.findIdx? fun (x : Class) => match x.kind with | .array component _ => component == comp | _ => false) = some c := by
      have e1 := va_idx_bare U.vm comp
      rw [hbare] at e1
      have e2 := va_idx_bare u.vm comp
      exact (e1.symm.trans e2).trans hi
    simp only [f1, Option.bind_some]
    rw [Option.bind_eq_some_iff]
    refine ⟨c, hi', ?_⟩
    rw [hk', Option.map_some]
    have f2 : U.vm.findClass ("[" ++ (FieldType.array .int).toString) = u.vm.findClass ("[" ++ (FieldType.array .int).toString) := hvm.findClass _ _
    rw [he, f2]
    exact congrArg some hb
theorem zOutS (c : ClassId) (N h : Nat) : ∀ i : Nat, Jvm.Free.Multi.outerC c N h i = ({ cls := c, slots := (Jvm.Free.Multi.outerC c N h i).slots, vm := .none } : Cell)
  | 0 => rfl
  | i + 1 => by
    have ih := zOutS c N h i
    show (Jvm.Free.Multi.outerC c N h i).setSlot i (.ref (h + 1 + i)) = ({ cls := c, slots := ((Jvm.Free.Multi.outerC c N h i).setSlot i (.ref (h + 1 + i))).slots, vm := .none } : Cell)
    generalize Jvm.Free.Multi.outerC c N h i = e at ih ⊢
    rw [ih]
    rfl
theorem zOutC (c : ClassId) (N h : Nat) : Jvm.Free.Multi.outerC c N h N = arrV c N (fun j => va_rf (if j < N then some (h + 1 + j) else none)) := by
  obtain ⟨o1, o2, o3⟩ := Jvm.Free.Multi.outerC_facts c N h N
  have os := fun (j : Nat) (hj : j < N) => Jvm.Free.Multi.outerC_slot c N h N j hj
  rw [zOutS c N h N]
  have hs : (Jvm.Free.Multi.outerC c N h N).slots = (arrV c N (fun j => va_rf (if j < N then some (h + 1 + j) else none))).slots := by
    apply Array.ext_getElem?
    intro j
    by_cases hj : j < N
    · rw [os j hj, if_pos hj, arrV_read _ _ hj, if_pos hj]
      rfl
    · rw [Array.getElem?_eq_none (by omega), Array.getElem?_eq_none (by rw [arrV_size]; omega)]
  rw [hs]
  rfl
section ZMU
variable {X : zX} {d : Nat} {E : zM} {own : String} {cc : ByteArray} {nL : Nat} {ret : Option FieldType} {nm : String} {g : zG} {H : Heap} {locs : List Loc} {ls : Array Slot} {pc : Nat} {rest : List Value}
/-- many cells grow in a row: one outer and n inner -/
theorem zRep.multi {ws : va_W} {ty : Nat → Nat × Nat} {q n i : Nat} (hi : i < 8) {H1 : Heap} (hP : va_P (zD X) zcl ws H) (hD : va_D (zA X) ws)
    (hr : (∀ k a fs, zGo g k a = some fs → ty a = (0, k) ∧ ∃ i : Nat, ws[i]? = some (a, .inr (zkc k, fs))) ∧
    (∀ t a n f, zGi g t a = some (n, f) → ty a = (1, t) ∧ ∃ i : Nat, ws[i]? = some (a, .inl (zcA X (ztI t), n, .inl f))) ∧
    (∀ t a n f, zGq g t a = some (n, f) → ty a = (2, t) ∧ ∃ i : Nat, ws[i]? = some (a, .inl (zcA X (ztQ t), n, .inr (.inr (.inr (.inr f)))))) ∧
    (∀ t a n f, zGj g t a = some (n, f) → ty a = (3, t) ∧ ∃ i : Nat, ws[i]? = some (a, .inl (zcA X 2, n, .inr (.inl f)))))
    (hq : H.size = q) (hA : ∀ a, q ≤ a → zA X a) (hold : ∀ a : Nat, a < q → H1[a]? = H[a]?) (ho : H1[q]? = some (vp_cell (zcA X 4) (n, .inr (.inr (.inr (.inr (fun j => if j < n then some (q + 1 + j) else none))))))) (hin : ∀ j : Nat, j < n → H1[q + 1 + j]? = some (vp_cell (zcA X 0) (80, .inl (fun _ => 0))))
    (hlo : (zs X).heap.size ≤ H1.size ∧ ∀ q : Nat, q < (zs X).heap.size → H1[q]? = (zs X).heap[q]?) (hz : H1.size + zsl H1 ≤ zGz (zSm g i q n) ∧ zGz (zSm g i q n) ≤ zz X) : zRep X (zSm g i q n) H1 := by
  obtain ⟨h1, h2, h3, h4⟩ := hr
  have lt : ∀ (k : Nat) (x : Nat × va_E), ws[k]? = some x → x.1 < q := fun k x hx => by rw [← hq]; exact (hP k x hx).lt
  have fr : ∀ (k : Nat) (x : Nat × va_E), ws[k]? = some x → ∀ a, x.1 = a → a < q := fun k x hx a e => e ▸ lt k x hx
  refine ⟨hlo, hz, (ws ++ [(q, .inl (zcA X 4, n, .inr (.inr (.inr (.inr (fun j => if j < n then some (q + 1 + j) else none))))))]) ++ (List.range n).map (fun j => (q + 1 + j, .inl (zcA X 0, 80, .inl (fun _ => 0)))), (fun a => if a < q then ty a else if a = q then (2, i) else (1, 52 + i)), ?_, ?_, ?_, ?_, ?_, ?_⟩
  · intro k x hx
    by_cases c : k < ws.length
    · rw [List.getElem?_append_left (by rw [List.length_append]; omega), List.getElem?_append_left c] at hx
      exact (hP.kept (H1 := H1) (fun k x hx => hold _ (lt k x hx))) k x hx
    · by_cases c2 : k = ws.length
      · rw [List.getElem?_append_left (by rw [List.length_append, c2]; simp), List.getElem?_append_right (by omega), c2, Nat.sub_self] at hx
        cases hx
        exact ho
      · rw [List.getElem?_append_right (by rw [List.length_append, List.length_singleton]; omega), List.getElem?_map] at hx
        obtain ⟨j, hj, rfl⟩ := Option.map_eq_some_iff.mp hx
        have hjn := List.mem_range.mp (List.mem_of_getElem? hj)
        exact hin j hjn
  · have key : ∀ (k : Nat) (x : Nat × va_E), ((ws ++ [(q, .inl (zcA X 4, n, .inr (.inr (.inr (.inr (fun j => if j < n then some (q + 1 + j) else none))))))]) ++ (List.range n).map (fun j => (q + 1 + j, (.inl (zcA X 0, 80, .inl (fun _ => 0)) : va_E))))[k]? = some x → (k < ws.length ∧ ws[k]? = some x ∧ x.1 < q) ∨ (ws.length ≤ k ∧ x.1 = q + (k - ws.length)) := by
      intro k x hx
      by_cases c : k < ws.length
      · rw [List.getElem?_append_left (by rw [List.length_append]; omega), List.getElem?_append_left c] at hx
        exact Or.inl ⟨c, hx, lt k x hx⟩
      · by_cases c2 : k = ws.length
        · rw [List.getElem?_append_left (by rw [List.length_append, c2]; simp), List.getElem?_append_right (by omega), c2, Nat.sub_self] at hx
          cases hx
          exact Or.inr ⟨by omega, by rw [c2]; simp⟩
        · rw [List.getElem?_append_right (by rw [List.length_append, List.length_singleton]; omega), List.getElem?_map] at hx
          obtain ⟨j, hj, rfl⟩ := Option.map_eq_some_iff.mp hx
          rw [List.length_append, List.length_singleton] at hj
          have h5 := (List.getElem?_eq_some_iff.mp hj).2
          rw [List.getElem_range] at h5
          refine Or.inr ⟨by omega, ?_⟩
          show q + 1 + j = _
          omega
    refine ⟨fun a b x y hx hy hxy => ?_, fun k x hx => ?_⟩
    · rcases key a x hx with ⟨a1, a2, a3⟩ | ⟨a1, a2⟩
      · rcases key b y hy with ⟨b1, b2, b3⟩ | ⟨b1, b2⟩
        · exact hD.1 a b x y a2 b2 hxy
        · omega
      · rcases key b y hy with ⟨b1, b2, b3⟩ | ⟨b1, b2⟩
        · omega
        · omega
    · rcases key k x hx with ⟨a1, a2, a3⟩ | ⟨a1, a2⟩
      · exact hD.2 k x a2
      · exact hA _ (by omega)
  · intro k a fs h
    obtain ⟨u1, j, u2⟩ := h1 k a fs h
    have hj := (List.getElem?_eq_some_iff.mp u2).1
    exact ⟨(if_pos (fr _ _ u2 a rfl)).trans u1, j, by rw [List.getElem?_append_left (by rw [List.length_append]; omega), List.getElem?_append_left hj]; exact u2⟩
  · intro t a n' f h
    rw [zSm_i] at h
    by_cases c : t = 52 + i ∧ q < a ∧ a ≤ q + n
    · rw [if_pos c] at h
      cases h
      obtain ⟨rfl, c1, c2⟩ := c
      refine ⟨(if_neg (by omega)).trans (if_neg (by omega)), ws.length + 1 + (a - q - 1), ?_⟩
      rw [List.getElem?_append_right (by rw [List.length_append, List.length_singleton]; omega), List.getElem?_map, List.length_append, List.length_singleton, List.getElem?_range (by omega), Option.map_some]
      rw [show q + 1 + (ws.length + 1 + (a - q - 1) - (ws.length + 1)) = a by omega, show ztI (52 + i) = 0 from if_pos (by omega)]
    · rw [if_neg c] at h
      obtain ⟨u1, j, u2⟩ := h2 t a n' f h
      have hj := (List.getElem?_eq_some_iff.mp u2).1
      exact ⟨(if_pos (fr _ _ u2 a rfl)).trans u1, j, by rw [List.getElem?_append_left (by rw [List.length_append]; omega), List.getElem?_append_left hj]; exact u2⟩
  · intro t a n' f h
    rcases zup_get h with ⟨rfl, rfl, e⟩ | ⟨-, h⟩
    · cases e
      refine ⟨(if_neg (by omega)).trans (if_pos rfl), ws.length, ?_⟩
      rw [List.getElem?_append_left (by rw [List.length_append]; simp), List.getElem?_append_right (by omega), Nat.sub_self, show ztQ t = 4 from if_pos (by omega)]
      rfl
    · obtain ⟨u1, j, u2⟩ := h3 t a n' f h
      have hj := (List.getElem?_eq_some_iff.mp u2).1
      exact ⟨(if_pos (fr _ _ u2 a rfl)).trans u1, j, by rw [List.getElem?_append_left (by rw [List.length_append]; omega), List.getElem?_append_left hj]; exact u2⟩
  · intro t a n' f h
    obtain ⟨u1, j, u2⟩ := h4 t a n' f h
    have hj := (List.getElem?_eq_some_iff.mp u2).1
    exact ⟨(if_pos (fr _ _ u2 a rfl)).trans u1, j, by rw [List.getElem?_append_left (by rw [List.length_append]; omega), List.getElem?_append_left hj]; exact u2⟩
theorem z_multi (C : zC X d E RX9 cc nL ret nm) (hR : zRep X g H) (hS : va_S (zA X) (zS E).heap H locs) (i : Nat) (hi : i < 8) {n : Int32} (hn : ¬ n < 0) (hb : n.toNatClampNeg ≤ 1000) (hz : zGz g + 1 + 82 * n.toNatClampNeg ≤ zz X) (hdg : decode cc pc = .ok (.multianewarray 31 2, 4))
    (kk : ∀ q : Nat, zFr g q → (∀ j : Nat, j < n.toNatClampNeg → zFr g (q + 1 + j)) → ∀ H1 : Heap, zRep X (zSm g i q n.toNatClampNeg) H1 → va_S (zA X) (zS E).heap H1 locs → zV X E H1 locs (F0 (zm E) (pc + 4) ls (.ref q :: rest))) : zV X E H locs (F0 (zm E) pc ls (.int 80 :: .int n :: rest)) := by
  refine zw_bound fun b1 b2 _ _ => ?_
  obtain ⟨hA, hZ, ws, ty, hP, hD, hr⟩ := id hR
  have k2 := C.cells
  have k3 := C.slots
  unfold zms at k2 k3
  have h80 : (80 : Int32).toNatClampNeg = 80 := by decide
  have hK4 := (C.K.2 4 _ rfl).2
  have hK0 := (C.K.2 0 _ rfl).2
  intro T hT X1
  obtain ⟨vm1, cA, comp, hW, hfA, hfC, hO, hI, X2, st⟩ := X1.multianewarray2F C.x (own := RX9) (index := 31) (ty := .int) C.ow (C.ts _ q1417) (zAO_moved C.wm.alike (C.ok.2.1 _ q1418)) (C.ts _ q147) (g := F0 (zm E) pc ls (.int 80 :: .int n :: rest)) rfl (by rw [C.b]; exact hdg) (n := n) (k := 80) (rest := rest) rfl hn (by decide) (by omega) (by rw [h80]; decide) (by rw [h80]; decide) rfl rfl (by omega) (by rw [h80]; omega)
  rw [h80] at X2 st
  have eA : cA = zcA X 4 := Option.some.inj (hfA.symm.trans hK4)
  have eC : comp = zcA X 0 := Option.some.inj (hfC.symm.trans hK0)
  subst eA eC
  have hsz : (T.setVm vm1).heap.size = H.size := by show T.heap.size = _; rw [hT]
  obtain ⟨f1, f2, f3, f4⟩ := Jvm.Free.Multi.fill_facts (T.setVm vm1) (zcA X 4) (zcA X 0) n.toNatClampNeg 80 (defaultValue .int) n.toNatClampNeg
  have fo := fun (a : Addr) (ha : a < T.heap.size) => Jvm.Free.Multi.fill_old (T.setVm vm1) (zcA X 4) (zcA X 0) n.toNatClampNeg 80 (defaultValue .int) (a := a) ha n.toNatClampNeg
  have fin := fun (j : Nat) (hj : j < n.toNatClampNeg) => Jvm.Free.Multi.fill_inner (T.setVm vm1) (zcA X 4) (zcA X 0) n.toNatClampNeg 80 (defaultValue .int) n.toNatClampNeg j hj
  rw [hsz] at f1 f2
  have fin' : ∀ j, j < n.toNatClampNeg → (Jvm.Free.Multi.fill (T.setVm vm1) (zcA X 4) (zcA X 0) n.toNatClampNeg 80 (defaultValue .int) n.toNatClampNeg).heap[H.size + 1 + j]? = some (Jvm.Free.Multi.innerC (zcA X 0) 80 (defaultValue .int)) := fun j hj => by
    have := fin j hj
    rw [hsz] at this
    exact this
  generalize hF : Jvm.Free.Multi.fill (T.setVm vm1) (zcA X 4) (zcA X 0) n.toNatClampNeg 80 (defaultValue .int) n.toNatClampNeg = F at *
  have hold : ∀ a : Nat, a < H.size → F.heap[a]? = H[a]? := fun a ha => by
    rw [fo a (by rw [hT]; exact ha)]
    show T.heap[a]? = _
    rw [hT]
  have hS1 : va_S (zA X) (zS E).heap F.heap locs := ⟨by have := hS.1; omega, fun a h1 h2 => (hold a (Nat.lt_of_lt_of_le h1 hS.1)).trans (hS.2.1 a h1 h2), hS.2.2⟩
  have hA' : ∀ a, H.size ≤ a → zA X a := fun a ha => C.A a (Nat.le_trans hS.1 ha)
  have hou : F.heap[H.size]? = some (vp_cell (zcA X 4) (n.toNatClampNeg, .inr (.inr (.inr (.inr (fun j => if j < n.toNatClampNeg then some (H.size + 1 + j) else none)))))) := by
    rw [f2, vp_cell_q]
    exact congrArg some (zOutC _ _ _)
  have hin : ∀ j : Nat, j < n.toNatClampNeg → F.heap[H.size + 1 + j]? = some (vp_cell (zcA X 0) (80, .inl (fun _ => 0))) := fun j hj => by
    rw [fin' j hj, vp_cell_i]
    exact congrArg some (arrV_new _ _ _)
  have fr : ∀ a, H.size ≤ a → zFr g a := by
    intro a ha
    have lt : ∀ (k : Nat) (x : Nat × va_E), ws[k]? = some x → x.1 < H.size := fun k x hx => (hP k x hx).lt
    obtain ⟨h1, h2, h3, h4⟩ := hr
    refine ⟨fun k => ?_, fun k => ?_, fun k => ?_, fun k => ?_⟩
    · cases h : zGo g k a with
      | none => rfl
      | some fs =>
        obtain ⟨-, i, hi⟩ := h1 k a fs h
        have := lt _ _ hi
        exact absurd this (Nat.not_lt.mpr ha)
    · cases h : zGi g k a with
      | none => rfl
      | some fs =>
        obtain ⟨-, i, hi⟩ := h2 k a fs.1 fs.2 h
        have := lt _ _ hi
        exact absurd this (Nat.not_lt.mpr ha)
    · cases h : zGq g k a with
      | none => rfl
      | some fs =>
        obtain ⟨-, i, hi⟩ := h3 k a fs.1 fs.2 h
        have := lt _ _ hi
        exact absurd this (Nat.not_lt.mpr ha)
    · cases h : zGj g k a with
      | none => rfl
      | some fs =>
        obtain ⟨-, i, hi⟩ := h4 k a fs.1 fs.2 h
        have := lt _ _ hi
        exact absurd this (Nat.not_lt.mpr ha)
  have fin2 : zW X E F.heap locs (H.size - (zS E).heap.size + 1 + n.toNatClampNeg) (zsl H - zsl (zS E).heap + n.toNatClampNeg + n.toNatClampNeg * 80) (F0 (zm E) (pc + 4) ls (.ref H.size :: rest)) := by
    refine zw_bound fun q1 q2 q3 q4 => zw_tight ?_
    exact kk H.size (fr _ (Nat.le_refl _)) (fun j _ => fr _ (by omega)) F.heap (zRep.multi hi hP hD hr rfl hA' hold hou hin (C.keep hS1) ⟨by rw [zSm_z]; have := hR.2.1.1; omega, by rw [zSm_z]; omega⟩) hS1
  obtain ⟨t, a1, a2⟩ := fin2 F rfl X2
  refine ⟨t, st t ?_, a2⟩
  rw [hT]
  exact a1
end ZMU
