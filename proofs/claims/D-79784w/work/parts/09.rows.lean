set_option maxRecDepth 100000
theorem zsl_drop {A B : Heap} (hs : A.size ≤ B.size) (h : ∀ (a : Nat) (c : Cell), A[a]? = some c → ∃ c' : Cell, B[a]? = some c' ∧ c'.slots.size = c.slots.size) : zsl B = zsl A + ((B.toList.drop A.size).map (·.slots.size)).sum := by
  have e : (B.toList.take A.size).map (·.slots.size) = A.toList.map (·.slots.size) := by
    apply List.ext_getElem?
    intro i
    rw [List.getElem?_map, List.getElem?_map, List.getElem?_take]
    by_cases hi : i < A.size
    · rw [if_pos hi]
      have h1 : A[i]? = some A[i] := Array.getElem?_eq_getElem hi
      obtain ⟨c', h2, h3⟩ := h i _ h1
      rw [Array.getElem?_toList, Array.getElem?_toList, h1, h2]
      simp [h3]
    · rw [if_neg hi, Array.getElem?_toList, Array.getElem?_eq_none (by omega)]
  unfold zsl
  rw [← e]
  conv => lhs; rw [← List.take_append_drop A.size B.toList, List.map_append, List.sum_append]
section ZB
variable {p : Program} {l : Launch} {e : Jvm.Env} {R : Room} {s : State} {m : MethodId} {args : Array Value} {below : List Frame} {meth : Method} {c : Code} {H : Heap} {locs : List Loc} {cells slots : Nat} {Q : State → Prop}
theorem zst_b {T : State} (X : Stand p l e R s m args below meth c T locs cells slots) : (s.heap.size ≤ T.heap.size ∧ zsl s.heap ≤ zsl T.heap) ∧ T.heap.size ≤ s.heap.size + cells ∧ zsl T.heap ≤ zsl s.heap + slots ∧ Stand p l e R s m args below meth c T locs (T.heap.size - s.heap.size) (zsl T.heap - zsl s.heap) := by
  obtain ⟨h1, h2, h3, h4, h5, h6⟩ := X.same
  have hd := zsl_drop (A := s.heap) (B := T.heap) h2 (fun a c hc => by
    obtain ⟨c', q1, -, q3, -⟩ := h6 a c hc
    exact ⟨c', q1, q3⟩)
  have h3 : T.heap.size ≤ s.heap.size + cells := h3
  have h5 : ((T.heap.toList.drop s.heap.size).map (·.slots.size)).sum ≤ slots := h5
  refine ⟨⟨h2, by omega⟩, h3, by omega, { X with same := ⟨h1, h2, ?_, h4, ?_, h6⟩ }⟩
  · show T.heap.size ≤ _
    have h2 : s.heap.size ≤ T.heap.size := h2
    omega
  · show ((T.heap.toList.drop s.heap.size).map (·.slots.size)).sum ≤ _
    omega
theorem zw_tight {g : JFrame} (k : W p l e R s m args below meth c H locs (H.size - s.heap.size) (zsl H - zsl s.heap) Q g) : W p l e R s m args below meth c H locs cells slots Q g := by
  intro T hT X
  subst hT
  exact k T rfl (zst_b X).2.2.2
theorem zw_bound {g : JFrame} (k : s.heap.size ≤ H.size → zsl s.heap ≤ zsl H → H.size ≤ s.heap.size + cells → zsl H ≤ zsl s.heap + slots → W p l e R s m args below meth c H locs cells slots Q g) : W p l e R s m args below meth c H locs cells slots Q g := by
  intro T hT X
  subst hT
  obtain ⟨⟨h1, h2⟩, h3, h4, -⟩ := zst_b X
  exact k h1 h2 h3 h4 T rfl X
theorem zx_tight {g : JFrame} {q : Addr} (k : vx_W p l e R s m args below meth c H locs (H.size - s.heap.size) (zsl H - zsl s.heap) Q g q) : vx_W p l e R s m args below meth c H locs cells slots Q g q := by
  intro T hT X
  subst hT
  exact k T rfl (zst_b X).2.2.2
theorem zx_bound {g : JFrame} {q : Addr} (k : s.heap.size ≤ H.size → zsl s.heap ≤ zsl H → H.size ≤ s.heap.size + cells → zsl H ≤ zsl s.heap + slots → vx_W p l e R s m args below meth c H locs cells slots Q g q) : vx_W p l e R s m args below meth c H locs cells slots Q g q := by
  intro T hT X
  subst hT
  obtain ⟨⟨h1, h2⟩, h3, h4, -⟩ := zst_b X
  exact k h1 h2 h3 h4 T rfl X
end ZB
theorem zws_ne {A : Nat → Prop} {ws : va_W} {i : Nat} {a : Nat} {e0 e1 : va_E} (hi : ws[i]? = some (a, e0)) {j b : Nat} {x : va_E} (hj : ws[j]? = some (b, x)) (hb : b ≠ a) : (ws.set i (a, e1))[j]? = some (b, x) := by
  have hij : i ≠ j := fun h => hb (by subst h; rw [hi] at hj; cases hj; rfl)
  rw [List.getElem?_set_ne hij]
  exact hj
theorem zws_eq {ws : va_W} {i : Nat} {a : Nat} {e0 e1 : va_E} (hi : ws[i]? = some (a, e0)) : (ws.set i (a, e1))[i]? = some (a, e1) := List.getElem?_set_self (List.getElem?_eq_some_iff.mp hi).1
theorem zws_old {ws : va_W} {j b q : Nat} {x e : va_E} (hj : ws[j]? = some (b, x)) : (ws ++ [(q, e)])[j]? = some (b, x) := by
  rw [List.getElem?_append_left (List.getElem?_eq_some_iff.mp hj).1]
  exact hj
theorem zws_new {ws : va_W} {q : Nat} {e : va_E} : (ws ++ [(q, e)])[ws.length]? = some (q, e) := by simp
theorem zws_apart {A : Nat → Prop} {ws : va_W} {j b q : Nat} {x e : va_E} (hD : va_D A (ws ++ [(q, e)])) (hj : ws[j]? = some (b, x)) : b ≠ q := by
  intro h
  have := hD.1 j ws.length _ _ (zws_old hj) zws_new h
  have h2 := (List.getElem?_eq_some_iff.mp hj).1
  omega
/-- nothing is at q -/
def zFr (g : zG) (q : Nat) : Prop := (∀ k, zGo g k q = none) ∧ (∀ t, zGi g t q = none) ∧ (∀ t, zGq g t q = none) ∧ ∀ t, zGj g t q = none
theorem zup_get {α : Type} {f : Nat → Nat → Option α} {k a k' a' : Nat} {v w : α} (h : zup f k a v k' a' = some w) : (k' = k ∧ a' = a ∧ w = v) ∨ (¬ (k' = k ∧ a' = a) ∧ f k' a' = some w) := by
  unfold zup at h
  by_cases hc : k' = k ∧ a' = a
  · rw [if_pos hc] at h
    exact Or.inl ⟨hc.1, hc.2, (Option.some.inj h).symm⟩
  · rw [if_neg hc] at h
    exact Or.inr ⟨hc, h⟩
section ZR
variable {X : zX} {g : zG} {H H1 : Heap} {k a n t : Nat} {fs fs' : List Value} {f : Nat → Int32}
theorem zRep.ws_o (h : zRep X g H) (ho : zGo g k a = some fs) : ∃ (ws : va_W) (i : Nat), va_P (zD X) zcl ws H ∧ va_D (zA X) ws ∧ ws[i]? = some (a, .inr (zkc k, fs)) := by
  obtain ⟨-, -, ws, ty, hP, hD, h1, -⟩ := h
  obtain ⟨-, i, hi⟩ := h1 k a fs ho
  exact ⟨ws, i, hP, hD, hi⟩
theorem zRep.ws_i (h : zRep X g H) (ho : zGi g t a = some (n, f)) : ∃ (ws : va_W) (i : Nat), va_P (zD X) zcl ws H ∧ va_D (zA X) ws ∧ ws[i]? = some (a, .inl (zcA X (ztI t), n, .inl f)) := by
  obtain ⟨-, -, ws, ty, hP, hD, -, h1, -⟩ := h
  obtain ⟨-, i, hi⟩ := h1 t a n f ho
  exact ⟨ws, i, hP, hD, hi⟩
theorem zRep.ws_q {f : Nat → Option Nat} (h : zRep X g H) (ho : zGq g t a = some (n, f)) : ∃ (ws : va_W) (i : Nat), va_P (zD X) zcl ws H ∧ va_D (zA X) ws ∧ ws[i]? = some (a, .inl (zcA X (ztQ t), n, .inr (.inr (.inr (.inr f))))) := by
  obtain ⟨-, -, ws, ty, hP, hD, -, -, h1, -⟩ := h
  obtain ⟨-, i, hi⟩ := h1 t a n f ho
  exact ⟨ws, i, hP, hD, hi⟩
theorem zRep.ws_j {f : Nat → Int64} (h : zRep X g H) (ho : zGj g t a = some (n, f)) : ∃ (ws : va_W) (i : Nat), va_P (zD X) zcl ws H ∧ va_D (zA X) ws ∧ ws[i]? = some (a, .inl (zcA X 2, n, .inr (.inl f))) := by
  obtain ⟨-, -, ws, ty, hP, hD, -, -, -, h1⟩ := h
  obtain ⟨-, i, hi⟩ := h1 t a n f ho
  exact ⟨ws, i, hP, hD, hi⟩
theorem zRep.setO {ws : va_W} {ty : Nat → Nat × Nat} {i : Nat} (hlo : (zs X).heap.size ≤ H1.size ∧ ∀ q : Nat, q < (zs X).heap.size → H1[q]? = (zs X).heap[q]?) (hz : H1.size + zsl H1 ≤ zGz g ∧ zGz g ≤ zz X)
    (hr : (∀ k a fs, zGo g k a = some fs → ty a = (0, k) ∧ ∃ i : Nat, ws[i]? = some (a, .inr (zkc k, fs))) ∧
    (∀ t a n f, zGi g t a = some (n, f) → ty a = (1, t) ∧ ∃ i : Nat, ws[i]? = some (a, .inl (zcA X (ztI t), n, .inl f))) ∧
    (∀ t a n f, zGq g t a = some (n, f) → ty a = (2, t) ∧ ∃ i : Nat, ws[i]? = some (a, .inl (zcA X (ztQ t), n, .inr (.inr (.inr (.inr f)))))) ∧
    (∀ t a n f, zGj g t a = some (n, f) → ty a = (3, t) ∧ ∃ i : Nat, ws[i]? = some (a, .inl (zcA X 2, n, .inr (.inl f)))))
    (ho : zGo g k a = some fs) (hi : ws[i]? = some (a, .inr (zkc k, fs))) (hP : va_P (zD X) zcl (ws.set i (a, .inr (zkc k, fs'))) H1) (hD : va_D (zA X) (ws.set i (a, .inr (zkc k, fs')))) : zRep X (zSo g k a fs') H1 := by
  obtain ⟨h1, h2, h3, h4⟩ := hr
  have ha := (h1 k a fs ho).1
  refine ⟨hlo, hz, ws.set i (a, .inr (zkc k, fs')), ty, hP, hD, fun k' a' fs2 h => ?_, fun t' a' n' f' h => ?_, fun t' a' n' f' h => ?_, fun t' a' n' f' h => ?_⟩
  · rcases zup_get h with ⟨rfl, rfl, rfl⟩ | ⟨hc, h⟩
    · exact ⟨ha, i, zws_eq hi⟩
    · obtain ⟨q1, j, q2⟩ := h1 k' a' fs2 h
      refine ⟨q1, j, zws_ne (A := zA X) hi q2 fun e => hc ⟨?_, e⟩⟩
      rw [e, ha] at q1
      exact ((Prod.mk.injEq _ _ _ _).mp q1).2.symm
  · obtain ⟨q1, j, q2⟩ := h2 t' a' n' f' h
    refine ⟨q1, j, zws_ne (A := zA X) hi q2 fun e => ?_⟩
    rw [e, ha] at q1
    cases q1
  · obtain ⟨q1, j, q2⟩ := h3 t' a' n' f' h
    refine ⟨q1, j, zws_ne (A := zA X) hi q2 fun e => ?_⟩
    rw [e, ha] at q1
    cases q1
  · obtain ⟨q1, j, q2⟩ := h4 t' a' n' f' h
    refine ⟨q1, j, zws_ne (A := zA X) hi q2 fun e => ?_⟩
    rw [e, ha] at q1
    cases q1
theorem zRep.setI {ws : va_W} {ty : Nat → Nat × Nat} {i : Nat} {f' : Nat → Int32} (hlo : (zs X).heap.size ≤ H1.size ∧ ∀ q : Nat, q < (zs X).heap.size → H1[q]? = (zs X).heap[q]?) (hz : H1.size + zsl H1 ≤ zGz g ∧ zGz g ≤ zz X)
    (hr : (∀ k a fs, zGo g k a = some fs → ty a = (0, k) ∧ ∃ i : Nat, ws[i]? = some (a, .inr (zkc k, fs))) ∧
    (∀ t a n f, zGi g t a = some (n, f) → ty a = (1, t) ∧ ∃ i : Nat, ws[i]? = some (a, .inl (zcA X (ztI t), n, .inl f))) ∧
    (∀ t a n f, zGq g t a = some (n, f) → ty a = (2, t) ∧ ∃ i : Nat, ws[i]? = some (a, .inl (zcA X (ztQ t), n, .inr (.inr (.inr (.inr f)))))) ∧
    (∀ t a n f, zGj g t a = some (n, f) → ty a = (3, t) ∧ ∃ i : Nat, ws[i]? = some (a, .inl (zcA X 2, n, .inr (.inl f)))))
    (ho : zGi g t a = some (n, f)) (hi : ws[i]? = some (a, .inl (zcA X (ztI t), n, .inl f))) (hP : va_P (zD X) zcl (ws.set i (a, .inl (zcA X (ztI t), n, .inl f'))) H1) (hD : va_D (zA X) (ws.set i (a, .inl (zcA X (ztI t), n, .inl f')))) : zRep X (zSi g t a n f') H1 := by
  obtain ⟨h1, h2, h3, h4⟩ := hr
  have ha := (h2 t a n f ho).1
  refine ⟨hlo, hz, ws.set i (a, .inl (zcA X (ztI t), n, .inl f')), ty, hP, hD, fun k' a' fs2 h => ?_, fun t' a' n' f2 h => ?_, fun t' a' n' f' h => ?_, fun t' a' n' f' h => ?_⟩
  · obtain ⟨q1, j, q2⟩ := h1 k' a' fs2 h
    refine ⟨q1, j, zws_ne (A := zA X) hi q2 fun e => ?_⟩
    rw [e, ha] at q1
    cases q1
  · rcases zup_get h with ⟨rfl, rfl, e⟩ | ⟨hc, h⟩
    · cases e
      exact ⟨ha, i, zws_eq hi⟩
    · obtain ⟨q1, j, q2⟩ := h2 t' a' n' f2 h
      refine ⟨q1, j, zws_ne (A := zA X) hi q2 fun e => hc ⟨?_, e⟩⟩
      rw [e, ha] at q1
      exact ((Prod.mk.injEq _ _ _ _).mp q1).2.symm
  · obtain ⟨q1, j, q2⟩ := h3 t' a' n' f' h
    refine ⟨q1, j, zws_ne (A := zA X) hi q2 fun e => ?_⟩
    rw [e, ha] at q1
    cases q1
  · obtain ⟨q1, j, q2⟩ := h4 t' a' n' f' h
    refine ⟨q1, j, zws_ne (A := zA X) hi q2 fun e => ?_⟩
    rw [e, ha] at q1
    cases q1
theorem zRep.setQ {ws : va_W} {ty : Nat → Nat × Nat} {i : Nat} {f f' : Nat → Option Nat} (hlo : (zs X).heap.size ≤ H1.size ∧ ∀ q : Nat, q < (zs X).heap.size → H1[q]? = (zs X).heap[q]?) (hz : H1.size + zsl H1 ≤ zGz g ∧ zGz g ≤ zz X)
    (hr : (∀ k a fs, zGo g k a = some fs → ty a = (0, k) ∧ ∃ i : Nat, ws[i]? = some (a, .inr (zkc k, fs))) ∧
    (∀ t a n f, zGi g t a = some (n, f) → ty a = (1, t) ∧ ∃ i : Nat, ws[i]? = some (a, .inl (zcA X (ztI t), n, .inl f))) ∧
    (∀ t a n f, zGq g t a = some (n, f) → ty a = (2, t) ∧ ∃ i : Nat, ws[i]? = some (a, .inl (zcA X (ztQ t), n, .inr (.inr (.inr (.inr f)))))) ∧
    (∀ t a n f, zGj g t a = some (n, f) → ty a = (3, t) ∧ ∃ i : Nat, ws[i]? = some (a, .inl (zcA X 2, n, .inr (.inl f)))))
    (ho : zGq g t a = some (n, f)) (hi : ws[i]? = some (a, .inl (zcA X (ztQ t), n, .inr (.inr (.inr (.inr f)))))) (hP : va_P (zD X) zcl (ws.set i (a, .inl (zcA X (ztQ t), n, .inr (.inr (.inr (.inr f')))))) H1) (hD : va_D (zA X) (ws.set i (a, .inl (zcA X (ztQ t), n, .inr (.inr (.inr (.inr f')))))) ) : zRep X (zSq g t a n f') H1 := by
  obtain ⟨h1, h2, h3, h4⟩ := hr
  have ha := (h3 t a n f ho).1
  refine ⟨hlo, hz, ws.set i (a, .inl (zcA X (ztQ t), n, .inr (.inr (.inr (.inr f'))))), ty, hP, hD, fun k' a' fs2 h => ?_, fun t' a' n' f2 h => ?_, fun t' a' n' f2 h => ?_, fun t' a' n' f' h => ?_⟩
  · obtain ⟨q1, j, q2⟩ := h1 k' a' fs2 h
    refine ⟨q1, j, zws_ne (A := zA X) hi q2 fun e => ?_⟩
    rw [e, ha] at q1
    cases q1
  · obtain ⟨q1, j, q2⟩ := h2 t' a' n' f2 h
    refine ⟨q1, j, zws_ne (A := zA X) hi q2 fun e => ?_⟩
    rw [e, ha] at q1
    cases q1
  · rcases zup_get h with ⟨rfl, rfl, e⟩ | ⟨hc, h⟩
    · cases e
      exact ⟨ha, i, zws_eq hi⟩
    · obtain ⟨q1, j, q2⟩ := h3 t' a' n' f2 h
      refine ⟨q1, j, zws_ne (A := zA X) hi q2 fun e => hc ⟨?_, e⟩⟩
      rw [e, ha] at q1
      exact ((Prod.mk.injEq _ _ _ _).mp q1).2.symm
  · obtain ⟨q1, j, q2⟩ := h4 t' a' n' f' h
    refine ⟨q1, j, zws_ne (A := zA X) hi q2 fun e => ?_⟩
    rw [e, ha] at q1
    cases q1
theorem zRep.setJ {ws : va_W} {ty : Nat → Nat × Nat} {i : Nat} {f f' : Nat → Int64} (hlo : (zs X).heap.size ≤ H1.size ∧ ∀ q : Nat, q < (zs X).heap.size → H1[q]? = (zs X).heap[q]?) (hz : H1.size + zsl H1 ≤ zGz g ∧ zGz g ≤ zz X)
    (hr : (∀ k a fs, zGo g k a = some fs → ty a = (0, k) ∧ ∃ i : Nat, ws[i]? = some (a, .inr (zkc k, fs))) ∧
    (∀ t a n f, zGi g t a = some (n, f) → ty a = (1, t) ∧ ∃ i : Nat, ws[i]? = some (a, .inl (zcA X (ztI t), n, .inl f))) ∧
    (∀ t a n f, zGq g t a = some (n, f) → ty a = (2, t) ∧ ∃ i : Nat, ws[i]? = some (a, .inl (zcA X (ztQ t), n, .inr (.inr (.inr (.inr f)))))) ∧
    (∀ t a n f, zGj g t a = some (n, f) → ty a = (3, t) ∧ ∃ i : Nat, ws[i]? = some (a, .inl (zcA X 2, n, .inr (.inl f)))))
    (ho : zGj g t a = some (n, f)) (hi : ws[i]? = some (a, .inl (zcA X 2, n, .inr (.inl f)))) (hP : va_P (zD X) zcl (ws.set i (a, .inl (zcA X 2, n, .inr (.inl f')))) H1) (hD : va_D (zA X) (ws.set i (a, .inl (zcA X 2, n, .inr (.inl f'))))) : zRep X (zSj g t a n f') H1 := by
  obtain ⟨h1, h2, h3, h4⟩ := hr
  have ha := (h4 t a n f ho).1
  refine ⟨hlo, hz, ws.set i (a, .inl (zcA X 2, n, .inr (.inl f'))), ty, hP, hD, fun k' a' fs2 h => ?_, fun t' a' n' f2 h => ?_, fun t' a' n' f2 h => ?_, fun t' a' n' f2 h => ?_⟩
  · obtain ⟨q1, j, q2⟩ := h1 k' a' fs2 h
    refine ⟨q1, j, zws_ne (A := zA X) hi q2 fun e => ?_⟩
    rw [e, ha] at q1
    cases q1
  · obtain ⟨q1, j, q2⟩ := h2 t' a' n' f2 h
    refine ⟨q1, j, zws_ne (A := zA X) hi q2 fun e => ?_⟩
    rw [e, ha] at q1
    cases q1
  · obtain ⟨q1, j, q2⟩ := h3 t' a' n' f2 h
    refine ⟨q1, j, zws_ne (A := zA X) hi q2 fun e => ?_⟩
    rw [e, ha] at q1
    cases q1
  · rcases zup_get h with ⟨rfl, rfl, e⟩ | ⟨hc, h⟩
    · cases e
      exact ⟨ha, i, zws_eq hi⟩
    · obtain ⟨q1, j, q2⟩ := h4 t' a' n' f2 h
      refine ⟨q1, j, zws_ne (A := zA X) hi q2 fun e => hc ⟨?_, e⟩⟩
      rw [e, ha] at q1
      exact ((Prod.mk.injEq _ _ _ _).mp q1).2.symm
end ZR
