set_option maxRecDepth 100000
section ZLS4
variable {X : zX} {d : Nat} {g : zG} {K : Option Value → zG → Prop} {KX : String → zG → Prop} {t a : Nat} {mc : Int32} {l : List Nat} {cap : Nat}
/-- what was put in at place i -/
theorem zins_at (l : List Nat) (i x : Nat) (hi : i ≤ l.length) (f f0 : Nat → Option Nat) (hf : ∀ j, j < l.length → f j = l[j]?) (j : Nat) (hj : j < l.length + 1) :
    va_up (va_cpy f f0 i (i + 1) (l.length - i)) i (some x) j = if j < i then f0 j else (l.insertIdx i x)[j]? := by
  unfold va_up va_cpy
  by_cases c : j = i
  · subst c
    rw [if_pos rfl, if_neg (Nat.lt_irrefl _), List.getElem?_insertIdx_self, if_pos hi]
  · rw [if_neg c]
    by_cases c2 : j < i
    · rw [if_pos c2, if_neg (by omega)]
    · rw [if_neg c2, if_pos (by omega), List.getElem?_insertIdx_of_gt (by omega), hf _ (by omega)]
      congr 1
      omega
theorem sp_insert (hok : zOk X) (hL : zL X g t a mc l cap) (ht : 64 ≤ t) {x : Nat} (hx : zob g x) (hob : ∀ y ∈ l, zob g y) (hlen : l.length ≤ 200) {i : Nat} (hi : i ≤ l.length) (hz : zGz g + 400 ≤ zz X)
    (hK : ∀ (g' : zG) (cap' : Nat), zL X g' t a (mc + 1) (l.insertIdx i x) cap' → zFm t g g' → (∀ y, zob g y → zob g' y) → zGz g' + zpot cap' ≤ zGz g + zpot cap → K none g') : zCal X (d + 6) yJ2_add_3 wJ2_add_3 [.ref a, .int (nI i), .ref x] g K KX := by
  have hk := zkc_0 ht
  have ht' : ¬ t < 64 := by omega
  have hli : (l.insertIdx i x).length = l.length + 1 := by rw [List.length_insertIdx, if_pos hi]
  obtain ⟨b, f, ho, hq, hf, h1, h2⟩ := hL
  refine mJ2_add_3 (d := d + 5) hok a _ x (fun E C hQ => ⟨⟨t, _, ho, hk⟩, mJ2_rangeCheckForAdd hok a _ ⟨t, _, _, hk, ho, rfl, fun c => absurd c (nI_nlt (by omega) (by omega)), fun _ => ⟨fun _ => ⟨rfl, t, _, mc, hk, ho, rfl, t, _, hk, ho, by simp, fun g2 e2 => ?_⟩, fun c => absurd (nI_pos' (by omega)) c⟩⟩⟩)
  have o2 : zGo g2 t a = some [.int (mc + 1), .ref b, .int (nI l.length)] := by
    subst e2
    rw [zSo_o, zup_s]
    rfl
  have q2 : zGq g2 = zGq g := by
    subst e2
    rfl
  have z2 : zGz g2 = zGz g := by
    subst e2
    rfl
  have F2 : zFm t g g2 := by
    subst e2
    exact zFm.so _ _
  have B2 : ∀ y, zob g y → zob g2 y := by
    subst e2
    exact fun y hy => hy.so
  clear e2
  refine ⟨t, _, _, hk, o2, rfl, t, _, b, hk, o2, rfl, cap, ?_, fun v hv => ?_⟩
  · rcases hq with hq | ⟨h0, hq⟩
    · exact Or.inl ⟨t, f, by rw [q2]; exact hq⟩
    · exact Or.inr (Or.inr ⟨h0, hq⟩)
  subst hv
  have fin : ∀ (b' : Nat) (g3 : zG) (f' : Nat → Option Nat) (cap' : Nat), zGo g3 t a = some [.int (mc + 1), .ref b', .int (nI l.length)] → zGq g3 t b' = some (cap', f') → l.length < cap' → cap' ≤ 10000 → (∀ i, i < l.length → f' i = l[i]?) → zFm t g g3 → (∀ y, zob g y → zob g3 y) → zGz g3 + zpot cap' ≤ zGz g + zpot cap →
      GW X E 5 g3 38 [(0, .ref a), (1, .int (nI i)), (2, .ref x), (3, .int (nI l.length)), (4, .ref b')] [] := by
    intro b' g3 f' cap' o3 q3 c1 c2 v3 F3 B3 z3
    refine bJ2_add_3_38 C hQ g3 a _ x _ b' ?_
    have e3 : nI l.length - nI i = nI (l.length - i) := pk_sub (by omega)
    rw [e3, ← nI_succ i, nI_clamp (n := i) (by omega), nI_clamp (n := i + 1) (by omega), nI_clamp (n := l.length - i) (by omega)]
    refine ⟨t, t, cap', cap', f', f', Or.inl ⟨q3, ht'⟩, q3, ht', nI_pos (by omega), nI_pos (by omega), nI_pos (by omega), by omega, by omega, fun j hj y hy => ?_, fun g4 e4 => ?_⟩
    · rw [v3 _ (by omega)] at hy
      exact B3 y (hob y (List.mem_of_getElem? hy))
    · have B4 : ∀ y, zob g3 y → zob g4 y := by
        subst e4
        exact fun y hy => hy.mono rfl
      refine ⟨t, cap', _, by subst e4; rw [zSq_q, zup_s], ht', vp_in_nI (by omega) (by omega), B4 x (B3 x hx), fun g5 e5 => ⟨t, _, hk, by subst e5 e4; exact o3, by simp, fun g6 e6 => ?_⟩⟩
      subst e6
      refine hK _ cap' ⟨b', _, by rw [zSo_o, zup_s, hli, nI_succ]; rfl, Or.inl (by subst e5; rw [zSo_q, zSq_q, zup_s]), fun j hj => ?_, by omega, c2⟩ ?_ ?_ ?_
      · rw [hli] at hj
        rw [zins_at l i x hi f' f' v3 j hj]
        by_cases c : j < i
        · rw [if_pos c, List.getElem?_insertIdx_of_lt c]
          exact v3 j (by omega)
        · rw [if_neg c]
      · subst e5 e4
        exact F3.trans ((zFm.sq _ _ _).trans ((zFm.sq _ _ _).trans (zFm.so _ _)))
      · subst e5
        exact fun y hy => ((B4 y (B3 y hy)).mono (zSq_o _ _ _ _ _)).so
      · subst e5 e4
        exact z3
  refine ⟨fun c => ?_, fun c => ?_⟩
  · have c1 : l.length ≠ cap := fun e => c (by rw [e]; rfl)
    rcases hq with hq | ⟨h0, hq⟩
    · exact fin b g2 f cap o2 (by rw [q2]; exact hq) (by omega) h2 hf F2 B2 (by rw [z2]; exact Nat.le_refl _)
    · omega
  · have c1 : l.length = cap := (nI_eq (by omega) (by omega)).mp c
    refine ⟨⟨t, _, o2, hk⟩, sp_grow (d := d + 1) hok ht o2 (n := l.length) (f := f) ?_ hlen (by rw [z2]; exact hz) ?_ ?_⟩
    · rw [q2, c1]
      exact hq
    · intro j hj y hy
      rw [hf j hj] at hy
      exact B2 y (hob y (List.mem_of_getElem? hy))
    · intro q g' f' cap' p1 p2 p3 p4 p5 p6 p7 p8
      exact ⟨_, rfl, fin q g' f' cap' p1 p2 p3 (by omega) (fun j hj => (p5 j hj).trans (hf j hj)) (F2.trans p6) (fun y hy => p7 y (B2 y hy)) (by rw [c1] at p8; omega)⟩
/-- the first place of x -/
def zidx (l : List Nat) (x : Nat) : Int32 := if x ∈ l then nI (l.idxOf x) else -1
theorem sp_indexOf_loop (hok : zOk X) {E : zM} (C : zC X (d + 1) E RJ2 cJ2_indexOfRange 6 (some .int) "indexOfRange") (hQ : zQ X E K KX) {b x : Nat} {f : Nat → Option Nat} (hx : zIs g 4 x) (hq : zGq g t b = some (cap, f) ∨ l = []) (hc : cap < 2 ^ 31) (hl : l.length ≤ cap) (hf : ∀ i : Nat, i < l.length → f i = l[i]?) : ∀ (m i : Nat), l.length = i + m → (∀ j, j < i → l[j]? ≠ some x) → K (some (.int (zidx l x))) g → GW X E 6 g 42 [(1, .ref x), (3, .int (nI l.length)), (4, .ref b), (5, .int (nI i))] []
  | 0, i, hi, hn, hK => by
    refine bJ2_indexOfRange_42 C hQ g x _ b _ ⟨fun _ => ?_, fun c => absurd (nI_le (by omega) (by omega)) c⟩
    have : ¬ x ∈ l := fun h => by
      obtain ⟨j, hj, e⟩ := List.mem_iff_getElem.mp h
      exact hn j (by omega) (by rw [List.getElem?_eq_getElem hj, e])
    unfold zidx at hK
    rw [if_neg this] at hK
    exact hK
  | m + 1, i, hi, hn, hK => by
    refine bJ2_indexOfRange_42 C hQ g x _ b _ ⟨fun c => absurd c (nI_ge (by omega) (by omega)), fun _ => ?_⟩
    have hq' : zGq g t b = some (cap, f) := by
      rcases hq with hq | hq
      · exact hq
      · rw [hq] at hi
        exact absurd hi (by rw [List.length_nil]; omega)
    have hil : i < l.length := by omega
    refine ⟨t, cap, f, hq', vp_in_nI (by omega) (by omega), fun r hr => ⟨hx, ?_⟩⟩
    subst hr
    rw [nI_clamp (by omega), hf i hil]
    refine mJ24_equals hok x _ ⟨fun c => ⟨_, rfl, fun _ => ?_, fun z => absurd rfl z⟩, fun c => ⟨_, rfl, fun z => absurd z (by decide), fun _ => ?_⟩⟩
    · rw [← nI_succ]
      refine sp_indexOf_loop hok C hQ hx hq hc hl hf m (i + 1) (by omega) (fun j hj => ?_) hK
      by_cases e : j = i
      · subst e
        exact fun z => c z.symm
      · exact hn j (by omega)
    · have hm : x ∈ l := List.mem_of_getElem? c.symm
      have hix : l.idxOf x = i := by
        have h1 : l.idxOf x < l.length := List.idxOf_lt_length_iff.mpr hm
        have h2 : l[l.idxOf x]? = some x := by rw [List.getElem?_eq_getElem h1, List.getElem_idxOf h1]
        have h3 : ¬ l.idxOf x < i := fun z => hn _ z h2
        have h4 : l[i] = x := by
          rw [List.getElem?_eq_getElem hil] at c
          exact (Option.some.inj c).symm
        have h5 : ¬ i < l.idxOf x := fun z => by
          have := List.not_of_lt_findIdx (p := (· == x)) (xs := l) z
          simp [h4] at this
        omega
      unfold zidx at hK
      rw [if_pos hm, hix] at hK
      exact hK
theorem sp_indexOf (hok : zOk X) (hL : zL X g t a mc l cap) (ht : 64 ≤ t) {x : Nat} (hx : zIs g 4 x) (hK : K (some (.int (zidx l x))) g) : zCal X (d + 2) yJ2_indexOf wJ2_indexOf [.ref a, .ref x] g K KX := by
  have hk := zkc_0 ht
  obtain ⟨b, f, ho, hq, hf, h1, h2⟩ := hL
  refine mJ2_indexOf (d := d + 1) hok a x ⟨t, _, _, hk, ho, rfl, ⟨t, _, ho, hk⟩, mJ2_indexOfRange hok a x _ _ (fun E C hQ => ⟨t, _, b, hk, ho, rfl, ?_⟩)⟩
  rw [show (0 : Int32) = nI 0 from nI_0.symm]
  refine sp_indexOf_loop (t := t) (cap := cap) (f := f) hok C hQ hx ?_ (by omega) h1 hf l.length 0 (by omega) (fun j hj => absurd hj (Nat.not_lt_zero j)) ⟨_, rfl, hK⟩
  rcases hq with hq | ⟨h0, -⟩
  · exact Or.inl hq
  · exact Or.inr (List.eq_nil_of_length_eq_zero (by omega))
theorem sp_contains (hok : zOk X) (hL : zL X g t a mc l cap) (ht : 64 ≤ t) {x : Nat} (hx : zIs g 4 x) (hK : K (some (.int (if x ∈ l then 1 else 0))) g) : zCal X (d + 3) yJ2_contains wJ2_contains [.ref a, .ref x] g K KX := by
  obtain ⟨h1, h2⟩ := hL.len
  refine mJ2_contains (d := d + 2) hok a x ⟨hL.is ht, sp_indexOf hok hL ht hx ⟨_, rfl, fun c => ?_, fun c => ?_⟩⟩
  · by_cases h : x ∈ l
    · unfold zidx at c
      have := List.idxOf_lt_length_iff.mpr h
      rw [if_pos h] at c
      exact absurd c (nI_pos (by omega))
    · simpa [h] using hK
  · by_cases h : x ∈ l
    · simpa [h] using hK
    · unfold zidx at c
      rw [if_neg h] at c
      exact absurd (by decide) c
end ZLS4
