set_option maxRecDepth 100000
/-- the row that the model looks at -/
def zRw (fi : Nat → Int32) (fa : Nat → Nat → Int32) (R : List Nat) : Prop := fi 27 = nI R.length ∧ R.length ≤ 80 ∧ ∀ k : Nat, k < R.length → fa 28 k = nI (zr R k) ∧ zr R k < 80
/-- the table that the model keeps -/
def ztb (fa : Nat → Nat → Int32) (p e : Nat) : Int32 := fa 32 (80 * p + e)
theorem z80 (p e : Nat) : 80 * nI p + nI e = nI (80 * p + e) := by
  unfold nI
  rw [show (80 : Int32) = Int32.ofNat 80 from rfl, ← Int32.ofNat_mul, ← Int32.ofNat_add]
theorem zin {n i : Nat} (N : Nat) (e : n = N) (h : i < N) (hN : N ≤ 10000) : vp_in (nI i) n := by
  subst e
  exact vp_in_nI h (by omega)
section RDS
variable {X : zX} {d : Nat} {g : zG} {K : Option Value → zG → Prop} {KX : String → zG → Prop} {m : Nat} {fi : Nat → Int32} {ad : Nat → Nat} {fa : Nat → Nat → Int32} {R : List Nat}
theorem mp_and (hok : zOk X) {x y : Int32} (hK : K (some (.int (zAnd x y))) g) : zCal X d yX3_and wX3_and [.int x, .int y] g K KX := by
  unfold zAnd at hK
  refine mX3_and hok x y ⟨fun c => ?_, fun c => ⟨fun c2 => ⟨fun c3 => ?_, fun c3 => ⟨fun c4 => ?_, fun c4 => ?_⟩⟩, fun c2 => ?_⟩⟩
  · rw [if_pos (Or.inl c)] at hK; exact hK
  · rw [if_neg (fun z => z.elim c c2), if_pos (Or.inl c3)] at hK; exact hK
  · rw [if_neg (fun z => z.elim c c2), if_neg (fun z => z.elim c3 c4)] at hK; exact hK
  · rw [if_neg (fun z => z.elim c c2), if_pos (Or.inr c4)] at hK; exact hK
  · rw [if_pos (Or.inr c2)] at hK; exact hK
theorem mp_or (hok : zOk X) {x y : Int32} (hK : K (some (.int (zOr x y))) g) : zCal X d yX3_or wX3_or [.int x, .int y] g K KX := by
  unfold zOr at hK
  refine mX3_or hok x y ⟨fun c => ?_, fun c => ⟨fun c2 => ⟨fun c3 => ?_, fun c3 => ⟨fun c4 => ?_, fun c4 => ?_⟩⟩, fun c2 => ?_⟩⟩
  · rw [if_pos (Or.inl c)] at hK; exact hK
  · rw [if_neg (fun z => z.elim c c2), if_pos (Or.inl c3)] at hK; exact hK
  · rw [if_neg (fun z => z.elim c c2), if_neg (fun z => z.elim c3 c4)] at hK; exact hK
  · rw [if_neg (fun z => z.elim c c2), if_pos (Or.inr c4)] at hK; exact hK
  · rw [if_pos (Or.inr c2)] at hK; exact hK
theorem mp_not (hok : zOk X) {x : Int32} (hK : K (some (.int (zNt x))) g) : zCal X d yX3_not wX3_not [.int x] g K KX := by
  unfold zNt at hK
  refine mX3_not hok x ⟨fun c => ?_, fun c => ?_⟩
  · rw [if_neg c] at hK; exact hK
  · rw [if_pos c] at hK; exact hK
theorem mp_at (hok : zOk X) (hM : zMd g m fi ad fa) {p e : Nat} (hp : p < 24) (he : e < 80) (hK : K (some (.int (ztb fa p e))) g) : zCal X d yX3_at wX3_at [.ref m, .int (nI p), .int (nI e)] g K KX := by
  refine mX3_at hok m _ _ ⟨_, _, hM.1, rfl, _, _, hM.2 32 (by decide), ?_, fun v hv => ?_⟩
  · rw [z80]
    exact (zin 1920 rfl (by omega) (by omega))
  · subst hv
    rw [z80, nI_clamp (by omega)]
    exact hK
theorem mp_isNear (hok : zOk X) (hM : zMd g m fi ad fa) (hR : zRw fi fa R) {k e : Nat} {b : Int32} (hk : k < R.length) (he : e < R.length) (h1 : znr (fa 7) R b k e = true → K (some (.int 1)) g) (h0 : znr (fa 7) R b k e = false → K (some (.int 0)) g) : zCal X d yX3_isNear wX3_isNear [.ref m, .int (nI k), .int (nI e), .int b] g K KX := by
  obtain ⟨r1, r2, r3⟩ := hR
  obtain ⟨k1, k2⟩ := r3 k hk
  obtain ⟨e1, e2⟩ := r3 e he
  refine mX3_isNear hok m _ _ _ ⟨fun c => h1 ?_, fun c => ⟨_, _, hM.1, rfl, _, _, hM.1, rfl, _, _, hM.2 28 (by decide), (zin 80 rfl (by omega) (by omega)), fun v hv => ?_⟩⟩
  · unfold znr
    rw [c]
    rfl
  · subst hv
    rw [nI_clamp (by omega), e1]
    refine ⟨_, _, hM.2 7 (by decide), (zin 80 rfl (by omega) (by omega)), fun v hv => ?_⟩
    subst hv
    refine ⟨_, _, hM.1, rfl, _, _, hM.1, rfl, _, _, hM.2 28 (by decide), (zin 80 rfl (by omega) (by omega)), fun v hv => ?_⟩
    subst hv
    rw [nI_clamp (n := k) (by omega), k1]
    refine ⟨_, _, hM.2 7 (by decide), (zin 80 rfl (by omega) (by omega)), fun v hv => ?_⟩
    subst hv
    rw [nI_clamp (n := zr R e) (by omega), nI_clamp (n := zr R k) (by omega)]
    refine ⟨fun c2 => h0 ?_, fun c2 => h1 ?_⟩
    · unfold znr
      simp [c, c2]
    · unfold znr
      simp [c, c2]
theorem mp_isOpenFor (hok : zOk X) (hM : zMd g m fi ad fa) (hR : zRw fi fa R) {e : Nat} {b : Int32} (he : e < R.length) (h1 : zop (fi 2) (fi 5) (fa 7) R b e = true → K (some (.int 1)) g) (h0 : zop (fi 2) (fi 5) (fa 7) R b e = false → K (some (.int 0)) g) : zCal X d yX3_isOpenFor wX3_isOpenFor [.ref m, .int (nI e), .int b] g K KX := by
  obtain ⟨r1, r2, r3⟩ := hR
  obtain ⟨e1, e2⟩ := r3 e he
  refine mX3_isOpenFor hok m _ _ ⟨_, _, hM.1, rfl, fun c => h0 ?_, fun c => ⟨fun c2 => h1 ?_, fun c2 => ⟨_, _, hM.1, rfl, _, _, hM.1, rfl, _, _, hM.1, rfl, _, _, hM.2 28 (by decide), (zin 80 rfl (by omega) (by omega)), fun v hv => ?_⟩⟩⟩
  · unfold zop
    simp [c]
  · unfold zop
    simp [c, c2]
  · subst hv
    rw [nI_clamp (by omega), e1]
    refine ⟨_, _, hM.2 7 (by decide), (zin 80 rfl (by omega) (by omega)), fun v hv => ?_⟩
    subst hv
    rw [nI_clamp (n := zr R e) (by omega)]
    refine ⟨fun c3 => h0 ?_, fun c3 => h1 ?_⟩
    · unfold zop
      simp [c, c2, c3]
    · unfold zop
      simp [c, c2, c3]
theorem mp_isValue (hok : zOk X) {x h n : Int32} (h1 : zvl x h n = true → K (some (.int 1)) g) (h0 : zvl x h n = false → K (some (.int 0)) g) : zCal X d yX3_isValue wX3_isValue [.ref m, .int x, .int h, .int n] g K KX := by
  refine mX3_isValue hok m x h n ⟨fun c => ⟨fun c2 => ⟨fun c3 => h0 ?_, fun c3 => h1 ?_⟩, fun c2 => ⟨fun c3 => h0 ?_, fun c3 => h1 ?_⟩⟩, fun c => ⟨fun c3 => h0 ?_, fun c3 => h1 ?_⟩⟩
  · unfold zvl
    simpa [c, c2] using c3
  · unfold zvl
    simpa [c, c2] using c3
  · unfold zvl
    simp [c2, c3]
  · unfold zvl
    simp [c2, c3]
  · unfold zvl
    simpa [c] using c3
  · unfold zvl
    simpa [c] using c3
end RDS
