set_option maxRecDepth 100000
theorem zE_inj {X : zX} (hok : zOk X) {i j : Nat} (hi : i < 12) (hj : j < 12) (h : zE X i = zE X j) : i = j := hok.2.2.2.1.2 i j hi hj h
/-- an event's fields -/
def zef (fa : Nat → Nat → Int32) (v : Nat) : List Value := [.int (nI v), .int (fa 7 v), .int (fa 6 v), .int (fa 8 v), .int (fa 9 v), .int (fa 10 v), .int (fa 11 v)]
/-- the parts of the part at p -/
def zfp1 (fa : Nat → Nat → Int32) (base : Nat) (fo : Nat → Nat) (p : Nat) : Option Nat := if zay (fa 16 (base + p)).toNatClampNeg = 0 then none else if zay (fa 16 (base + p)).toNatClampNeg = 1 then some (fo (p - 1)) else some (fo (zf1 fa base p))
def zfp2 (fa : Nat → Nat → Int32) (base : Nat) (fo : Nat → Nat) (p : Nat) : Option Nat := if zay (fa 16 (base + p)).toNatClampNeg = 2 then some (fo (p - 1)) else none
/-- a formula's fields: what it is, its parts, its size, its place -/
def zff (X : zX) (fa : Nat → Nat → Int32) (base : Nat) (fo : Nat → Nat) (p : Nat) (q : Int32) : List Value := [.ref (zE X (fa 16 (base + p)).toNatClampNeg), .int (fa 17 (base + p)), .int (fa 18 (base + p)), va_rf (zfp1 fa base fo p), va_rf (zfp2 fa base fo p), .int (fa 19 (base + p)), .int q]
/-- what is there of a monitor's row i: the row object rw of x, its list rl of the events R, the parts pl, the table ra -/
def zRo (X : zX) (i x rw rl pl ra n base : Nat) (rr fo eo : Nat → Nat) (R : List Nat) (xs : List Value) (fi : Nat → Int32) (fa : Nat → Nat → Int32) (g : zG) : Prop :=
  zGo g 9 rw = some [.ref rl, .ref pl, .ref ra, .ref x] ∧ (∃ q : Nat, zLs X g (82 + 3 * i) rl (R.map eo) q) ∧ (∃ q : Nat, zLs X g (80 + 3 * i) pl ((List.range n).map fo) q) ∧ (∃ f : Nat → Option Nat, zGq g i ra = some (n, f) ∧ ∀ p : Nat, p < n → f p = some (rr p)) ∧ (∀ p : Nat, p < n → zGo g 7 (fo p) = some (zff X fa base fo p (nI p))) ∧ (∀ v ∈ R, zGo g 4 (eo v) = some (zef fa v)) ∧ zGo g 1 x = some xs ∧ xs[5]? = some (.int (fi 5)) ∧ ∃ o : Int32, xs[6]? = some (.int o) ∧ (o = 0 ↔ ¬ fi 2 = 0)
/-- the table's cells, each as yet unknown or right -/
def zRc (X : zX) (i x rw rl pl ra n base : Nat) (rr fo eo : Nat → Nat) (R : List Nat) (xs : List Value) (fi : Nat → Int32) (fa : Nat → Nat → Int32) (g : zG) (F : Nat → Nat → Int32) : Prop :=
  zRo X i x rw rl pl ra n base rr fo eo R xs fi fa g ∧ (∀ p : Nat, p < n → zGi g (52 + i) (rr p) = some (80, F p)) ∧ ∀ p : Nat, p < n → ∀ e : Nat, e < R.length → F p e = -1 ∨ F p e = zVv fi fa base R p e
/-- only the table changes, and what is known stays so -/
def zEq (i : Nat) (g g' : zG) : Prop := zGo g' = zGo g ∧ zGq g' = zGq g ∧ zGj g' = zGj g ∧ zGz g' = zGz g ∧ ∀ t : Nat, t ≠ 52 + i → zGi g' t = zGi g t
theorem zEq.rf (i : Nat) (g : zG) : zEq i g g := ⟨rfl, rfl, rfl, rfl, fun _ _ => rfl⟩
theorem zEq.trans {i : Nat} {g g' g'' : zG} (h : zEq i g g') (h' : zEq i g' g'') : zEq i g g'' := ⟨h'.1.trans h.1, h'.2.1.trans h.2.1, h'.2.2.1.trans h.2.2.1, h'.2.2.2.1.trans h.2.2.2.1, fun t ht => (h'.2.2.2.2 t ht).trans (h.2.2.2.2 t ht)⟩
def zAf (i n m : Nat) (g : zG) (F : Nat → Nat → Int32) (g' : zG) (F' : Nat → Nat → Int32) : Prop := zEq i g g' ∧ ∀ p : Nat, p < n → ∀ e : Nat, e < m → ¬ F p e = -1 → ¬ F' p e = -1
theorem zAf.rf (i n m : Nat) (g : zG) (F : Nat → Nat → Int32) : zAf i n m g F g F := ⟨zEq.rf i g, fun _ _ _ _ h => h⟩
theorem zAf.trans {i n m : Nat} {g g' g'' : zG} {F F' F'' : Nat → Nat → Int32} (h : zAf i n m g F g' F') (h' : zAf i n m g' F' g'' F'') : zAf i n m g F g'' F'' := ⟨h.1.trans h'.1, fun p hp e he k => h'.2 p hp e he (h.2 p hp e he k)⟩
theorem zLs.eq {X : zX} {i : Nat} {g g' : zG} {t a : Nat} {l : List Nat} {q : Nat} (h : zLs X g t a l q) (e : zEq i g g') : zLs X g' t a l q := by
  unfold zLs zL at h ⊢
  rw [e.1, e.2.1]
  exact h
theorem zRo.eq {X : zX} {i x rw rl pl ra n base : Nat} {rr fo eo : Nat → Nat} {R : List Nat} {xs : List Value} {fi : Nat → Int32} {fa : Nat → Nat → Int32} {g g' : zG} (h : zRo X i x rw rl pl ra n base rr fo eo R xs fi fa g) (e : zEq i g g') : zRo X i x rw rl pl ra n base rr fo eo R xs fi fa g' := by
  obtain ⟨h1, ⟨q2, h2⟩, ⟨q3, h3⟩, ⟨f, h4, h4'⟩, h5, h6, h7, h8⟩ := h
  exact ⟨by rw [e.1]; exact h1, ⟨q2, h2.eq e⟩, ⟨q3, h3.eq e⟩, ⟨f, by rw [e.2.1]; exact h4, h4'⟩, by rw [e.1]; exact h5, by rw [e.1]; exact h6, by rw [e.1]; exact h7, h8⟩
/-- what a row's answers rest on -/
def zRs (n base : Nat) (rr : Nat → Nat) (R : List Nat) (fi : Nat → Int32) (fa : Nat → Nat → Int32) : Prop :=
  zwf fa base n ∧ n ≤ 24 ∧ R.length ≤ 80 ∧ zri fa R ∧ zti fa R ∧ (∃ t : Nat, t ≤ 11000 ∧ fi 5 = nI t ∧ ∀ v ∈ R, fa 7 v ≤ fi 5) ∧ (∀ v ∈ R, -1000 ≤ (fa 10 v).toInt ∧ (fa 10 v).toInt ≤ 1000) ∧ (∀ p : Nat, p < n → fa 16 (base + p) = 1 → (fa 17 (base + p) = 0 ∨ fa 17 (base + p) = 1 ∨ fa 17 (base + p) = 2) ∧ -1000 ≤ (fa 18 (base + p)).toInt ∧ (fa 18 (base + p)).toInt ≤ 1000) ∧ ∀ p q : Nat, p < n → q < n → rr p = rr q → p = q
section ROW
variable {X : zX} {d : Nat} {g : zG} {K : Option Value → zG → Prop} {KX : String → zG → Prop} {i x rw rl pl ra n base : Nat} {rr fo eo : Nat → Nat} {R : List Nat} {xs : List Value} {fi : Nat → Int32} {fa : Nat → Nat → Int32}
theorem zRo.w (h : zRo X i x rw rl pl ra n base rr fo eo R xs fi fa g) : zIs g 9 rw := ⟨9, _, h.1, rfl⟩
theorem zRo.wf (h : zRo X i x rw rl pl ra n base rr fo eo R xs fi fa g) {p : Nat} (hp : p < n) : zGo g 7 (fo p) = some (zff X fa base fo p (nI p)) := h.2.2.2.2.1 p hp
theorem zRo.ev (h : zRo X i x rw rl pl ra n base rr fo eo R xs fi fa g) {e : Nat} (he : e < R.length) : zGo g 4 (eo (zr R e)) = some (zef fa (zr R e)) := h.2.2.2.2.2.1 _ (zr_mem he)
/-- an event of the row -/
theorem rp_get (hok : zOk X) (h : zRo X i x rw rl pl ra n base rr fo eo R xs fi fa g) {e : Nat} (he : e < R.length) (hK : K (some (.ref (eo (zr R e)))) g) : zCal X (d + 2) yJ2_get wJ2_get [.ref rl, .int (nI e)] g K KX := by
  obtain ⟨q, h2⟩ := h.2.1
  exact ls_getm hok h2 (by omega) he hK
theorem zRo.l (h : zRo X i x rw rl pl ra n base rr fo eo R xs fi fa g) : zIs g 0 rl := by
  obtain ⟨q, h2⟩ := h.2.1
  exact h2.is (by omega)
theorem rp_size (hok : zOk X) (h : zRo X i x rw rl pl ra n base rr fo eo R xs fi fa g) (hK : K (some (.int (nI R.length))) g) : zCal X d yJ2_size wJ2_size [.ref rl] g K KX := by
  obtain ⟨q, h2⟩ := h.2.1
  refine ls_size hok h2 (by omega) ?_
  rw [List.length_map]
  exact hK
theorem rp_abs (hs : zRs n base rr R fi fa) {j k : Nat} (hj : j < R.length) (hk : k < R.length) (hjk : j ≤ k) : (if fa 7 (zr R j) - fa 7 (zr R k) < 0 then -(fa 7 (zr R j) - fa 7 (zr R k)) else fa 7 (zr R j) - fa 7 (zr R k)) = fa 7 (zr R k) - fa 7 (zr R j) ∧ (if fa 7 (zr R k) - fa 7 (zr R j) < 0 then -(fa 7 (zr R k) - fa 7 (zr R j)) else fa 7 (zr R k) - fa 7 (zr R j)) = fa 7 (zr R k) - fa 7 (zr R j) := by
  obtain ⟨-, -, -, h1, h2, -⟩ := hs
  have hle := h1 j k hjk hk
  obtain ⟨a, ha, e1⟩ := h2 _ (zr_mem hj)
  obtain ⟨b, hb, e2⟩ := h2 _ (zr_mem hk)
  rw [e1, e2] at hle ⊢
  have hab := (nI_leI (by omega) (by omega)).mp hle
  rw [pk_sub hab]
  refine ⟨?_, if_neg (nI_pos (by omega))⟩
  by_cases c : a = b
  · subst c
    rw [Nat.sub_self, pk_sub (Nat.le_refl _), Nat.sub_self]
    decide
  · rw [if_pos (pk_sneg (by omega) (by omega))]
    rw [Int32.neg_sub]
    exact pk_sub hab
theorem rp_isNear (hok : zOk X) (h : zRo X i x rw rl pl ra n base rr fo eo R xs fi fa g) (hs : zRs n base rr R fi fa) {j k : Nat} {b : Int32} (hj : j < R.length) (hk : k < R.length) {q r : Nat} (hqr : (q = j ∧ r = k) ∨ (q = k ∧ r = j)) (hjk : j ≤ k) (hK : K (some (.int (zbI (znr (fa 7) R b j k)))) g) : zCal X (d + 3) yX9_isNear wX9_isNear [.ref rw, .int (nI q), .int (nI r), .int b] g K KX := by
  have hq : q < R.length := by rcases hqr with z | z <;> omega
  have hr : r < R.length := by rcases hqr with z | z <;> omega
  refine mX9_isNear (d := d + 2) hok rw _ _ _ ⟨fun c => ?_, fun c => ⟨_, _, h.1, rfl, h.l, rp_get hok h hq ⟨_, rfl, _, rfl, ⟨4, _, h.ev hq, rfl⟩, _, _, h.ev hq, rfl, _, _, h.1, rfl, h.l, rp_get hok h hr ⟨_, rfl, _, rfl, ⟨4, _, h.ev hr, rfl⟩, _, _, h.ev hr, rfl, sp_abs hok ⟨_, rfl, ?_⟩⟩⟩⟩⟩
  · have : znr (fa 7) R b j k = true := by
      unfold znr
      rw [c]
      rfl
    rw [this] at hK
    exact hK
  · have e : (if fa 7 (zr R q) - fa 7 (zr R r) < 0 then -(fa 7 (zr R q) - fa 7 (zr R r)) else fa 7 (zr R q) - fa 7 (zr R r)) = fa 7 (zr R k) - fa 7 (zr R j) := by
      obtain ⟨e1, e2⟩ := rp_abs hs hj hk hjk
      rcases hqr with ⟨rfl, rfl⟩ | ⟨rfl, rfl⟩
      · exact e1
      · exact e2
    rw [e]
    refine ⟨fun z => ?_, fun z => ?_⟩
    · have : znr (fa 7) R b j k = false := by
        unfold znr
        simp [c, z]
      rw [this] at hK
      exact hK
    · have : znr (fa 7) R b j k = true := by
        unfold znr
        simp [c, z]
      rw [this] at hK
      exact hK
theorem rp_isNear' {D : Nat} (hD : 3 ≤ D) (hok : zOk X) (h : zRo X i x rw rl pl ra n base rr fo eo R xs fi fa g) (hs : zRs n base rr R fi fa) {j k : Nat} {b : Int32} (hj : j < R.length) (hk : k < R.length) {q r : Nat} (hqr : (q = j ∧ r = k) ∨ (q = k ∧ r = j)) (hjk : j ≤ k) (hK : K (some (.int (zbI (znr (fa 7) R b j k)))) g) : zCal X D yX9_isNear wX9_isNear [.ref rw, .int (nI q), .int (nI r), .int b] g K KX := by
  obtain ⟨d, rfl⟩ : ∃ d, D = d + 3 := ⟨D - 3, by omega⟩
  exact rp_isNear hok h hs hj hk hqr hjk hK
theorem rp_mayCome (hok : zOk X) (h : zRo X i x rw rl pl ra n base rr fo eo R xs fi fa g) {e : Nat} {b : Int32} (he : e < R.length) (hK : K (some (.int (zbI (zop (fi 2) (fi 5) (fa 7) R b e)))) g) : zCal X (d + 3) yX9_mayCome wX9_mayCome [.ref rw, .int (nI e), .int b] g K KX := by
  obtain ⟨h7, h8, o, h9, h10⟩ := h.2.2.2.2.2.2
  refine mX9_mayCome (d := d + 2) hok rw _ _ ⟨_, _, h.1, rfl, _, _, h7, h9, fun c => ?_, fun c => ⟨fun c2 => ?_, fun c2 => ⟨_, _, h.1, rfl, _, _, h7, h8, _, _, h.1, rfl, h.l, rp_get hok h he ⟨_, rfl, _, rfl, ⟨4, _, h.ev he, rfl⟩, _, _, h.ev he, rfl, fun z => ?_, fun z => ?_⟩⟩⟩⟩
  · have : zop (fi 2) (fi 5) (fa 7) R b e = false := by
      unfold zop
      rw [beq_eq_false_iff_ne.mpr (h10.mp c)]
      rfl
    rw [this] at hK
    exact hK
  · have h2 : fi 2 = 0 := Decidable.byContradiction (fun z => c (h10.mpr z))
    have : zop (fi 2) (fi 5) (fa 7) R b e = true := by
      unfold zop
      simp [h2, c2]
    rw [this] at hK
    exact hK
  · have h2 : fi 2 = 0 := Decidable.byContradiction (fun z => c (h10.mpr z))
    have : zop (fi 2) (fi 5) (fa 7) R b e = false := by
      unfold zop
      simp [c2, z]
    rw [this] at hK
    exact hK
  · have h2 : fi 2 = 0 := Decidable.byContradiction (fun z => c (h10.mpr z))
    have : zop (fi 2) (fi 5) (fa 7) R b e = true := by
      unfold zop
      simp [h2, c2, z]
    rw [this] at hK
    exact hK
theorem rp_mayCome' {D : Nat} (hD : 3 ≤ D) (hok : zOk X) (h : zRo X i x rw rl pl ra n base rr fo eo R xs fi fa g) {e : Nat} {b : Int32} (he : e < R.length) (hK : K (some (.int (zbI (zop (fi 2) (fi 5) (fa 7) R b e)))) g) : zCal X D yX9_mayCome wX9_mayCome [.ref rw, .int (nI e), .int b] g K KX := by
  obtain ⟨d, rfl⟩ : ∃ d, D = d + 3 := ⟨D - 3, by omega⟩
  exact rp_mayCome hok h he hK
theorem cp_and (hok : zOk X) {x y : Int32} (hK : K (some (.int (zAnd x y))) g) : zCal X d yX1_and wX1_and [.int x, .int y] g K KX := by
  unfold zAnd at hK
  refine mX1_and hok x y ⟨fun c => ?_, fun c => ⟨fun c2 => ⟨fun c3 => ?_, fun c3 => ⟨fun c4 => ?_, fun c4 => ?_⟩⟩, fun c2 => ?_⟩⟩
  · rw [if_pos (Or.inl c)] at hK; exact hK
  · rw [if_neg (fun z => z.elim c c2), if_pos (Or.inl c3)] at hK; exact hK
  · rw [if_neg (fun z => z.elim c c2), if_neg (fun z => z.elim c3 c4)] at hK; exact hK
  · rw [if_neg (fun z => z.elim c c2), if_pos (Or.inr c4)] at hK; exact hK
  · rw [if_pos (Or.inr c2)] at hK; exact hK
theorem cp_or (hok : zOk X) {x y : Int32} (hK : K (some (.int (zOr x y))) g) : zCal X d yX1_or wX1_or [.int x, .int y] g K KX := by
  unfold zOr at hK
  refine mX1_or hok x y ⟨fun c => ?_, fun c => ⟨fun c2 => ⟨fun c3 => ?_, fun c3 => ⟨fun c4 => ?_, fun c4 => ?_⟩⟩, fun c2 => ?_⟩⟩
  · rw [if_pos (Or.inl c)] at hK; exact hK
  · rw [if_neg (fun z => z.elim c c2), if_pos (Or.inl c3)] at hK; exact hK
  · rw [if_neg (fun z => z.elim c c2), if_neg (fun z => z.elim c3 c4)] at hK; exact hK
  · rw [if_neg (fun z => z.elim c c2), if_pos (Or.inr c4)] at hK; exact hK
  · rw [if_pos (Or.inr c2)] at hK; exact hK
theorem cp_negated (hok : zOk X) {x : Int32} (hK : K (some (.int (zNt x))) g) : zCal X d yX1_negated wX1_negated [.int x] g K KX := by
  unfold zNt at hK
  refine mX1_negated hok x ⟨fun c => ?_, fun c => ?_⟩
  · rw [if_neg c] at hK; exact hK
  · rw [if_pos c] at hK; exact hK
end ROW
