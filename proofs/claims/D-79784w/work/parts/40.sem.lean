set_option maxRecDepth 100000
/-! ANSWERS: what the model and the class both tell -/
def zAnd (a b : Int32) : Int32 := if a = 0 ∨ b = 0 then 0 else if a = 2 ∨ b = 2 then 2 else 1
def zOr (a b : Int32) : Int32 := if a = 1 ∨ b = 1 then 1 else if a = 2 ∨ b = 2 then 2 else 0
def zNt (a : Int32) : Int32 := if a = 2 then 2 else 1 - a
def z3 (a : Int32) : Prop := a = 0 ∨ a = 1 ∨ a = 2
theorem zAnd_c (a b : Int32) : zAnd a b = zAnd b a := by
  unfold zAnd
  simp only [Or.comm]
theorem zOr_c (a b : Int32) : zOr a b = zOr b a := by
  unfold zOr
  simp only [Or.comm]
theorem zAnd_3 (a b : Int32) : z3 (zAnd a b) := by
  unfold zAnd z3
  split
  · exact Or.inl rfl
  · split
    · exact Or.inr (Or.inr rfl)
    · exact Or.inr (Or.inl rfl)
theorem zOr_3 (a b : Int32) : z3 (zOr a b) := by
  unfold zOr z3
  split
  · exact Or.inr (Or.inl rfl)
  · split
    · exact Or.inr (Or.inr rfl)
    · exact Or.inl rfl
theorem zNt_3 {a : Int32} (h : z3 a) : z3 (zNt a) := by
  rcases h with rfl | rfl | rfl
  · exact Or.inr (Or.inl rfl)
  · exact Or.inl rfl
  · exact Or.inr (Or.inr rfl)
/-- what lies at place k of a row -/
def zr (R : List Nat) (k : Nat) : Nat := R.getD k 0
/-- near: place k, ahead of e, by bound b -/
def znr (T : Nat → Int32) (R : List Nat) (b : Int32) (k e : Nat) : Bool := b == -1 || !decide (b < T (zr R e) - T (zr R k))
def zop (cl pr : Int32) (T : Nat → Int32) (R : List Nat) (b : Int32) (e : Nat) : Bool := cl == 0 && (b == -1 || !decide (b < pr - T (zr R e)))
def zsin (nr : Nat → Bool) (F L : Nat → Int32) : Nat → Int32 → Int32 → Int32
  | 0, s, _ => s
  | k + 1, s, a => if nr k = true then zsin nr F L k (zOr s (zAnd (L k) a)) (zAnd a (F k)) else s
def zonc (nr : Nat → Bool) (L : Nat → Int32) : Nat → Int32 → Int32
  | 0, s => s
  | k + 1, s => if nr k = true then zonc nr L k (zOr s (L k)) else s
def zmny (nr : Nat → Bool) (L : Nat → Int32) : Nat → Int32 → Int32 → Int32 × Int32
  | 0, a, m => (a, m)
  | k + 1, a, m => if nr k = true then zmny nr L k (a + if L k = 1 then 1 else 0) (m + if L k = 0 then 0 else 1) else (a, m)
def zunt (nr : Nat → Bool) (F L : Nat → Int32) : Nat → Nat → Int32 → Int32 → Int32 × Int32
  | 0, _, s, a => (s, a)
  | m + 1, k, s, a => zunt nr F L m (k + 1) (if nr k = true then zOr s (zAnd (L k) a) else s) (zAnd a (F k))
def zsoo (nr : Nat → Bool) (L : Nat → Int32) : Nat → Nat → Int32 → Int32
  | 0, _, s => s
  | m + 1, k, s => if nr k = true then zsoo nr L m (k + 1) (zOr s (L k)) else s
/-- how a value is held against a number -/
def zvl (v how n : Int32) : Bool := if how = 0 then decide (v < n) else if how = 1 then v == n else decide (n < v)
/-- the place of the first part of the part at p, and of the last one p - 1 -/
def zf1 (fa : Nat → Nat → Int32) (base p : Nat) : Nat := p - 1 - (fa 19 (base + (p - 1))).toNatClampNeg
/-- what the part at p tells at place e of a row, by a table of what those ahead of it tell -/
def zst (fi : Nat → Int32) (fa : Nat → Nat → Int32) (base : Nat) (R : List Nat) (tab : Nat → Nat → Int32) (p e : Nat) : Int32 :=
  let w := fa 16 (base + p)
  let one := fa 17 (base + p)
  let two := fa 18 (base + p)
  let L := tab (p - 1)
  let F := tab (zf1 fa base p)
  if w = 0 then if fa 8 (zr R e) = one then 1 else 0
  else if w = 1 then if zvl (fa 10 (zr R e)) one two = true then 1 else 0
  else if w = 2 then zNt (L e)
  else if w = 3 then zAnd (F e) (L e)
  else if w = 4 then zOr (F e) (L e)
  else if w = 5 then if e = 0 then 0 else L (e - 1)
  else if w = 6 then zsin (fun k => znr (fa 7) R two k e) F L (e + 1) 0 1
  else if w = 7 then zonc (fun k => znr (fa 7) R two k e) L (e + 1) 0
  else if w = 8 then if e + 1 < R.length then L (e + 1) else if fi 2 = 0 then 2 else 0
  else if w = 9 then
    let u := zunt (fun k => znr (fa 7) R two e k) F L (R.length - e) e 0 1
    if zop (fi 2) (fi 5) (fa 7) R two e = true then zOr u.1 (zAnd 2 u.2) else u.1
  else if w = 10 then zsoo (fun k => znr (fa 7) R two e k) L (R.length - e) e (if zop (fi 2) (fi 5) (fa 7) R two e = true then 2 else 0)
  else
    let u := zmny (fun k => znr (fa 7) R two k e) L (e + 1) 0 0
    if u.1 < one then if u.2 < one then 0 else 2 else 1
def zT (fi : Nat → Int32) (fa : Nat → Nat → Int32) (base : Nat) (R : List Nat) : Nat → Nat → Nat → Int32
  | 0 => fun _ _ => 0
  | n + 1 => fun p e => if p = n then zst fi fa base R (zT fi fa base R n) p e else zT fi fa base R n p e
/-- what the part at p tells -/
def zVv (fi : Nat → Int32) (fa : Nat → Nat → Int32) (base : Nat) (R : List Nat) (p e : Nat) : Int32 := zT fi fa base R (p + 1) p e
theorem zT_V (fi : Nat → Int32) (fa : Nat → Nat → Int32) (base : Nat) (R : List Nat) (p e : Nat) : ∀ n : Nat, p < n → zT fi fa base R n p e = zVv fi fa base R p e
  | 0, h => absurd h (Nat.not_lt_zero p)
  | n + 1, h => by
    by_cases c : p = n
    · subst c
      rfl
    · show (if p = n then _ else zT fi fa base R n p e) = _
      rw [if_neg c]
      exact zT_V fi fa base R p e n (by omega)
theorem zVv_st (fi : Nat → Int32) (fa : Nat → Nat → Int32) (base : Nat) (R : List Nat) (p e : Nat) : zVv fi fa base R p e = zst fi fa base R (zT fi fa base R p) p e := by
  show (if p = p then _ else _) = _
  rw [if_pos rfl]
/-! THE MODEL'S OBJECT: its numbers fi, the addresses of its arrays ad, what lies in them fa -/
def zMf (fi : Nat → Int32) (ad : Nat → Nat) : List Value := [.ref (ad 0), .int (fi 1), .int (fi 2), .int (fi 3), .int (fi 4), .int (fi 5), .ref (ad 6), .ref (ad 7), .ref (ad 8), .ref (ad 9), .ref (ad 10), .ref (ad 11), .ref (ad 12), .int (fi 13), .ref (ad 14), .int (fi 15), .ref (ad 16), .ref (ad 17), .ref (ad 18), .ref (ad 19), .int (fi 20), .ref (ad 21), .ref (ad 22), .ref (ad 23), .ref (ad 24), .ref (ad 25), .ref (ad 26), .int (fi 27), .ref (ad 28), .int (fi 29), .ref (ad 30), .int (fi 31), .ref (ad 32), .ref (ad 33), .int (fi 34)]
abbrev zMi : List Nat := [1, 2, 3, 4, 5, 13, 15, 20, 27, 29, 31, 34]
abbrev zMa : List Nat := [0, 6, 7, 8, 9, 10, 11, 12, 14, 16, 17, 18, 19, 21, 22, 23, 24, 25, 26, 28, 30, 32, 33]
def ztg (j : Nat) : Nat := match j with
  | 11 => 111
  | 21 => 121
  | 22 => 122
  | k => k
def zln (j : Nat) : Nat := match j with
  | 0 => 4
  | 14 => 8
  | 16 => 336
  | 17 => 336
  | 18 => 336
  | 19 => 336
  | 21 => 6
  | 22 => 6
  | 23 => 6
  | 24 => 6
  | 25 => 480
  | 26 => 480
  | 32 => 1920
  | _ => 80
def zMd (g : zG) (m : Nat) (fi : Nat → Int32) (ad : Nat → Nat) (fa : Nat → Nat → Int32) : Prop := zGo g 3 m = some (zMf fi ad) ∧ ∀ j : Nat, j ∈ zMa → zGi g (ztg j) (ad j) = some (zln j, fa j)
/-- nothing but the model's things changes -/
def zNm (g g' : zG) : Prop := (∀ k : Nat, k ≠ 3 → zGo g' k = zGo g k) ∧ (∀ t : Nat, 50 ≤ t → t < 100 → zGi g' t = zGi g t) ∧ zGq g' = zGq g ∧ zGj g' = zGj g ∧ zGz g' = zGz g
theorem zNm.rf (g : zG) : zNm g g := ⟨fun _ _ => rfl, fun _ _ _ => rfl, rfl, rfl, rfl⟩
theorem zNm.trans {g g' g'' : zG} (h : zNm g g') (h' : zNm g' g'') : zNm g g'' := ⟨fun k hk => (h'.1 k hk).trans (h.1 k hk), fun t h1 h2 => (h'.2.1 t h1 h2).trans (h.2.1 t h1 h2), h'.2.2.1.trans h.2.2.1, h'.2.2.2.1.trans h.2.2.2.1, h'.2.2.2.2.trans h.2.2.2.2⟩
theorem zMf_set (fi : Nat → Int32) (ad : Nat → Nat) (v : Int32) (j : Nat) (hj : j ∈ zMi) : (zMf fi ad).set j (.int v) = zMf (va_up fi j v) ad := by
  simp only [zMi, List.mem_cons, List.not_mem_nil, or_false] at hj
  rcases hj with rfl | rfl | rfl | rfl | rfl | rfl | rfl | rfl | rfl | rfl | rfl | rfl <;> rfl
theorem ztg_ne : ∀ i ∈ zMa, ∀ j ∈ zMa, i ≠ j → ztg i ≠ ztg j := by decide
theorem ztg_r : ∀ j ∈ zMa, ztg j < 50 ∨ 100 ≤ ztg j := by decide
theorem zMd.si {g g' : zG} {m : Nat} {fi : Nat → Int32} {ad : Nat → Nat} {fa : Nat → Nat → Int32} (h : zMd g m fi ad fa) {j : Nat} {v : Int32} (e : g' = zSo g 3 m ((zMf fi ad).set j (.int v))) (hj : j ∈ zMi) : zMd g' m (va_up fi j v) ad fa := by
  subst e
  exact ⟨by rw [zSo_o, zup_s, zMf_set _ _ _ _ hj], fun i hi => by rw [zSo_i]; exact h.2 i hi⟩
theorem zMd.sa {g g' : zG} {m : Nat} {fi : Nat → Int32} {ad : Nat → Nat} {fa : Nat → Nat → Int32} (h : zMd g m fi ad fa) {j : Nat} {f : Nat → Int32} (hj : j ∈ zMa) (e : g' = zSi g (ztg j) (ad j) (zln j) f) : zMd g' m fi ad (va_up fa j f) := by
  subst e
  refine ⟨by rw [zSi_o]; exact h.1, fun i hi => ?_⟩
  by_cases c : i = j
  · subst c
    rw [zSi_i, zup_s, va_up_self]
  · rw [zSi_i, zup_k _ _ _ _ (ztg_ne i hi j hj c), va_up_ne _ _ c]
    exact h.2 i hi
theorem zNm.si {g g' : zG} {m : Nat} {fs : List Value} (e : g' = zSo g 3 m fs) : zNm g g' := by
  subst e
  exact ⟨fun k hk => by funext b; rw [zSo_o, zup_k _ _ _ _ hk], fun _ _ _ => rfl, rfl, rfl, rfl⟩
theorem zNm.sa {g g' : zG} {j a n : Nat} {f : Nat → Int32} (hj : j ∈ zMa) (e : g' = zSi g (ztg j) a n f) : zNm g g' := by
  subst e
  refine ⟨fun _ _ => rfl, fun t h1 h2 => ?_, rfl, rfl, rfl⟩
  have := ztg_r j hj
  funext b
  rw [zSi_i, zup_k _ _ _ _ (by omega)]
theorem zMd.is {g : zG} {m : Nat} {fi : Nat → Int32} {ad : Nat → Nat} {fa : Nat → Nat → Int32} (h : zMd g m fi ad fa) : zIs g 3 m := ⟨3, _, h.1, rfl⟩
