set_option maxRecDepth 100000
/-- what stands goes on standing, but for what P names: kinds of objects and of arrays of references, 1000 behind them tags of int arrays -/
def zFe (P : Nat → Prop) (g g' : zG) : Prop := (∀ k : Nat, ¬ P k → ∀ (a : Nat) (fs : List Value), zGo g k a = some fs → zGo g' k a = some fs) ∧ (∀ t : Nat, ¬ P (1000 + t) → ∀ (a : Nat) (v : Nat × (Nat → Int32)), zGi g t a = some v → zGi g' t a = some v) ∧ (∀ t : Nat, (t < 8 ∨ ¬ P t) → ∀ (a : Nat) (v : Nat × (Nat → Option Nat)), zGq g t a = some v → zGq g' t a = some v) ∧ zGj g' = zGj g
theorem zFe.rf (P : Nat → Prop) (g : zG) : zFe P g g := ⟨fun _ _ _ _ h => h, fun _ _ _ _ h => h, fun _ _ _ _ h => h, rfl⟩
theorem zFe.trans {P : Nat → Prop} {g g' g'' : zG} (h : zFe P g g') (h' : zFe P g' g'') : zFe P g g'' := ⟨fun k hk a fs e => h'.1 k hk a fs (h.1 k hk a fs e), fun t ht a v e => h'.2.1 t ht a v (h.2.1 t ht a v e), fun t ht a v e => h'.2.2.1 t ht a v (h.2.2.1 t ht a v e), h'.2.2.2.trans h.2.2.2⟩
theorem zFe.mono {P Q : Nat → Prop} {g g' : zG} (h : zFe P g g') (hq : ∀ k, P k → Q k) : zFe Q g g' := ⟨fun k hk => h.1 k (fun z => hk (hq k z)), fun t ht => h.2.1 t (fun z => ht (hq _ z)), fun t ht => h.2.2.1 t (ht.imp_right (fun w z => w (hq t z))), h.2.2.2⟩
theorem zFm.fe {t : Nat} {g g' : zG} (h : zFm t g g') (ht : 64 ≤ t) : zFe (fun k => k = t) g g' := ⟨fun k hk a fs e => by rw [h.1 k hk]; exact e, fun k _ a v e => by rw [h.2.1]; exact e, fun k hk a v e => by rw [h.2.2.1 k (by omega)]; exact e, h.2.2.2⟩
theorem zFk.fe {t : Nat} {g g' : zG} (h : zFk t g g') (ht : 64 ≤ t) : zFe (fun k => k = t) g g' := h.1.fe ht
theorem zFm.fe11 {g g' : zG} (h : zFm 11 g g') : zFe (fun k => k = 11) g g' := ⟨fun k hk a fs e => by rw [h.1 k hk]; exact e, fun k _ a v e => by rw [h.2.1]; exact e, fun k hk a v e => by rw [h.2.2.1 k (by omega)]; exact e, h.2.2.2⟩
/-- the model's things -/
def zPm (k : Nat) : Prop := k = 3 ∨ (1000 ≤ k ∧ k < 1050) ∨ 1100 ≤ k
theorem zNm.fe {g g' : zG} (h : zNm g g') : zFe zPm g g' := ⟨fun k hk a fs e => by rw [h.1 k (fun z => hk (Or.inl z))]; exact e, fun t ht a v e => by
  unfold zPm at ht
  rw [h.2.1 t (by omega) (by omega)]
  exact e, fun t _ a v e => by rw [h.2.2.1]; exact e, h.2.2.2.1⟩
theorem zFe.so {P : Nat → Prop} {g : zG} {k a : Nat} {fs : List Value} (h : P k) : zFe P g (zSo g k a fs) := ⟨fun k' hk a' fs' e => by rw [zSo_o, zup_k _ _ _ _ (fun z => hk (by rw [z]; exact h))]; exact e, fun _ _ _ _ e => e, fun _ _ _ _ e => e, rfl⟩
theorem zFe.si {P : Nat → Prop} {g : zG} {t a n : Nat} {f : Nat → Int32} (h : P (1000 + t)) : zFe P g (zSi g t a n f) := ⟨fun _ _ _ _ e => e, fun t' ht a' v e => by rw [zSi_i, zup_k _ _ _ _ (fun z => ht (by rw [z]; exact h))]; exact e, fun _ _ _ _ e => e, rfl⟩
theorem zFe.sz {P : Nat → Prop} {g : zG} (z : Nat) : zFe P g (zSz g z) := ⟨fun _ _ _ _ e => e, fun _ _ _ _ e => e, fun _ _ _ _ e => e, rfl⟩
/-- something new -/
theorem zFe.new {P : Nat → Prop} {g : zG} {k a : Nat} {fs : List Value} (h : zFr g a) (z : Nat) : zFe P g (zSz (zSo g k a fs) z) := ⟨fun k' _ a' fs' e => by
  rw [zSz_o, zSo_o]
  by_cases c : k' = k ∧ a' = a
  · rw [c.2, h.1 k'] at e
    cases e
  · unfold zup
    rw [if_neg c]
    exact e, fun _ _ _ _ e => e, fun _ _ _ _ e => e, rfl⟩
theorem zFe.new' {P : Nat → Prop} {g g' : zG} {k a : Nat} {fs : List Value} {z : Nat} (h : zFr g a) (e : g' = zSo (zSz g z) k a fs) : zFe P g g' := by
  subst e
  exact zFe.new (k := k) (fs := fs) h z
theorem zSo_so (g : zG) (k a : Nat) (f1 f2 : List Value) : zSo (zSo g k a f1) k a f2 = zSo g k a f2 := by
  unfold zSo
  rw [zup_uu]
theorem zSo_sz (g : zG) (k a z : Nat) (f : List Value) : zSo (zSz g z) k a f = zSz (zSo g k a f) z := rfl
theorem zL.fe {X : zX} {P : Nat → Prop} {g g' : zG} {t a : Nat} {mc : Int32} {l : List Nat} {cap : Nat} (hL : zL X g t a mc l cap) (h : zFe P g g') (ht : ¬ P t) : zL X g' t a mc l cap := by
  obtain ⟨b, f, h1, h2, h3⟩ := hL
  exact ⟨b, f, h.1 t ht _ _ h1, h2.imp_left (fun w => h.2.2.1 t (Or.inr ht) _ _ w), h3⟩
/-- a list of things, with what its growing may cost yet -/
def zLs (X : zX) (g : zG) (t a : Nat) (l : List Nat) (p : Nat) : Prop := ∃ (mc : Int32) (cap : Nat), zL X g t a mc l cap ∧ zpot cap ≤ p
theorem zLs.fe {X : zX} {P : Nat → Prop} {g g' : zG} {t a : Nat} {l : List Nat} {p : Nat} (hL : zLs X g t a l p) (h : zFe P g g') (ht : ¬ P t) : zLs X g' t a l p := by
  obtain ⟨mc, cap, h1, h2⟩ := hL
  exact ⟨mc, cap, h1.fe h ht, h2⟩
theorem zLs.is {X : zX} {g : zG} {t a : Nat} {l : List Nat} {p : Nat} (h : zLs X g t a l p) (ht : 64 ≤ t) : zIs g 0 a := by
  obtain ⟨mc, cap, h1, -⟩ := h
  exact h1.is ht
section LSS
variable {X : zX} {d : Nat} {g : zG} {K : Option Value → zG → Prop} {KX : String → zG → Prop} {t a : Nat} {l : List Nat} {p : Nat}
theorem ls_size (hok : zOk X) (hL : zLs X g t a l p) (ht : 64 ≤ t) (hK : K (some (.int (nI l.length))) g) : zCal X d yJ2_size wJ2_size [.ref a] g K KX := by
  obtain ⟨mc, cap, h1, -⟩ := hL
  exact sp_size hok h1 ht hK
theorem ls_get (hok : zOk X) (hL : zLs X g t a l p) (ht : 64 ≤ t) {i : Nat} (hi : i < l.length) (hK : K (some (.ref l[i])) g) : zCal X (d + 2) yJ2_get wJ2_get [.ref a, .int (nI i)] g K KX := by
  obtain ⟨mc, cap, h1, -⟩ := hL
  exact sp_get hok h1 ht hi hK
/-- get from a list of numbered things -/
theorem ls_getm (hok : zOk X) {R : List Nat} {eo : Nat → Nat} (hL : zLs X g t a (R.map eo) p) (ht : 64 ≤ t) {i : Nat} (hi : i < R.length) (hK : K (some (.ref (eo (zr R i)))) g) : zCal X (d + 2) yJ2_get wJ2_get [.ref a, .int (nI i)] g K KX := by
  refine ls_get hok hL ht (by rw [List.length_map]; exact hi) ?_
  rw [List.getElem_map]
  unfold zr at hK
  rw [List.getD_eq_getElem?_getD, List.getElem?_eq_getElem hi] at hK
  exact hK
theorem ls_add (hok : zOk X) (hL : zLs X g t a l p) (ht : 64 ≤ t) {x : Nat} (hx : zob g x) (hob : ∀ y ∈ l, zob g y) (hlen : l.length ≤ 200) (hz : zGz g + p + 400 ≤ zz X)
    (hK : ∀ (g' : zG) (p' : Nat), zLs X g' t a (l ++ [x]) p' → zFm t g g' → zGz g' + p' ≤ zGz g + p → K (some (.int 1)) g') : zCal X (d + 6) yJ2_add wJ2_add [.ref a, .ref x] g K KX := by
  obtain ⟨mc, cap, h1, h2⟩ := hL
  exact sp_add hok h1 ht hx hob hlen (by omega) (fun g' cap' a1 a2 a3 a4 => hK g' (zpot cap') ⟨_, _, a1, Nat.le_refl _⟩ a2 (by omega))
theorem ls_insert (hok : zOk X) (hL : zLs X g t a l p) (ht : 64 ≤ t) {x : Nat} (hx : zob g x) (hob : ∀ y ∈ l, zob g y) (hlen : l.length ≤ 200) {i : Nat} (hi : i ≤ l.length) (hz : zGz g + p + 400 ≤ zz X)
    (hK : ∀ (g' : zG) (p' : Nat), zLs X g' t a (l.insertIdx i x) p' → zFm t g g' → zGz g' + p' ≤ zGz g + p → K none g') : zCal X (d + 6) yJ2_add_3 wJ2_add_3 [.ref a, .int (nI i), .ref x] g K KX := by
  obtain ⟨mc, cap, h1, h2⟩ := hL
  exact sp_insert hok h1 ht hx hob hlen hi (by omega) (fun g' cap' a1 a2 a3 a4 => hK g' (zpot cap') ⟨_, _, a1, Nat.le_refl _⟩ a2 (by omega))
theorem ls_clear (hok : zOk X) (hL : zLs X g t a l p) (ht : 64 ≤ t) (hK : ∀ g' : zG, zLs X g' t a [] p → zFk t g g' → K none g') : zCal X d yJ2_clear wJ2_clear [.ref a] g K KX := by
  obtain ⟨mc, cap, h1, h2⟩ := hL
  exact sp_clear hok h1 ht (fun g' a1 a2 => hK g' ⟨_, _, a1, h2⟩ a2)
theorem ls_remove (hok : zOk X) (hL : zLs X g t a l p) (ht : 64 ≤ t) {i : Nat} (hi : i < l.length) (hob : ∀ y ∈ l, zob g y) (hK : ∀ g' : zG, zLs X g' t a (l.eraseIdx i) p → zFk t g g' → K (some (.ref l[i])) g') : zCal X (d + 2) yJ2_remove wJ2_remove [.ref a, .int (nI i)] g K KX := by
  obtain ⟨mc, cap, h1, h2⟩ := hL
  exact sp_remove hok h1 ht hi hob (fun g' a1 a2 => hK g' ⟨_, _, a1, h2⟩ a2)
theorem ls_set (hok : zOk X) (hL : zLs X g t a l p) (ht : 64 ≤ t) {i : Nat} (hi : i < l.length) {x : Nat} (hx : zob g x) (hK : ∀ g' : zG, zLs X g' t a (l.set i x) p → zFk t g g' → K (some (.ref l[i])) g') : zCal X (d + 2) yJ2_set wJ2_set [.ref a, .int (nI i), .ref x] g K KX := by
  obtain ⟨mc, cap, h1, h2⟩ := hL
  exact sp_set hok h1 ht hi hx (fun g' a1 a2 => hK g' ⟨_, _, a1, h2⟩ a2)
theorem ls_indexOf (hok : zOk X) (hL : zLs X g t a l p) (ht : 64 ≤ t) {x : Nat} (hx : zIs g 4 x) (hK : K (some (.int (zidx l x))) g) : zCal X (d + 2) yJ2_indexOf wJ2_indexOf [.ref a, .ref x] g K KX := by
  obtain ⟨mc, cap, h1, -⟩ := hL
  exact sp_indexOf hok h1 ht hx hK
theorem ls_contains (hok : zOk X) (hL : zLs X g t a l p) (ht : 64 ≤ t) {x : Nat} (hx : zIs g 4 x) (hK : K (some (.int (if x ∈ l then 1 else 0))) g) : zCal X (d + 3) yJ2_contains wJ2_contains [.ref a, .ref x] g K KX := by
  obtain ⟨mc, cap, h1, -⟩ := hL
  exact sp_contains hok h1 ht hx hK
end LSS
section CTR
variable {X : zX} {d : Nat} {g : zG} {K : Option Value → zG → Prop} {KX : String → zG → Prop} {a : Nat}
theorem cp_Event (hok : zOk X) {d0 d1 d2 d3 d4 d5 d6 : Value} (h0 : zGo g 4 a = some [d0, d1, d2, d3, d4, d5, d6]) {x1 x2 x3 x4 x5 x6 x7 : Int32} (h7 : zbo x7) (hK : K none (zSo g 4 a [.int x1, .int x2, .int x3, .int x4, .int x5, .int x6, .int x7])) : zCal X (d + 1) yX4_init wX4_init [.ref a, .int x1, .int x2, .int x3, .int x4, .int x5, .int x6, .int x7] g K KX := by
  refine mX4_init hok a _ _ _ _ _ _ _ ⟨_, h0, by simp, fun g1 e1 => ⟨_, by subst e1; rw [zSo_o, zup_s], by simp, fun g2 e2 => ⟨_, by subst e2; rw [zSo_o, zup_s], by simp, fun g3 e3 => ⟨_, by subst e3; rw [zSo_o, zup_s], by simp, fun g4 e4 => ⟨_, by subst e4; rw [zSo_o, zup_s], by simp, fun g5 e5 => ⟨_, by subst e5; rw [zSo_o, zup_s], by simp, fun g6 e6 => ⟨_, by subst e6; rw [zSo_o, zup_s], by simp, h7, fun g7 e7 => ?_⟩⟩⟩⟩⟩⟩⟩
  subst e7 e6 e5 e4 e3 e2 e1
  simp only [zSo_so]
  exact hK
theorem cp_Stretch (hok : zOk X) {d0 d1 : Value} (h0 : zGo g 5 a = some [d0, d1]) {x1 x2 : Int32} (hK : K none (zSo g 5 a [.int x1, .int x2])) : zCal X (d + 1) yX5_init wX5_init [.ref a, .int x1, .int x2] g K KX := by
  refine mX5_init hok a _ _ ⟨_, h0, by simp, fun g1 e1 => ⟨_, by subst e1; rw [zSo_o, zup_s], by simp, fun g2 e2 => ?_⟩⟩
  subst e2 e1
  simp only [zSo_so]
  exact hK
theorem cp_Pair (hok : zOk X) {d0 d1 : Value} (h0 : zGo g 6 a = some [d0, d1]) {x1 x2 : Nat} (hK : K none (zSo g 6 a [.ref x1, .ref x2])) : zCal X (d + 1) yX6_init wX6_init [.ref a, .ref x1, .ref x2] g K KX := by
  refine mX6_init hok a _ _ ⟨_, h0, by simp, fun g1 e1 => ⟨_, by subst e1; rw [zSo_o, zup_s], by simp, fun g2 e2 => ?_⟩⟩
  subst e2 e1
  simp only [zSo_so]
  exact hK
theorem cp_Tree (hok : zOk X) {d0 d1 d2 d3 d4 : Value} (h0 : zGo g 2 a = some [d0, d1, d2, d3, d4]) {x1 x2 : Int32} (hK : K none (zSo g 2 a [.int x1, .int x2, d2, d3, d4])) : zCal X (d + 1) yX2_init wX2_init [.ref a, .int x1, .int x2] g K KX := by
  refine mX2_init hok a _ _ ⟨_, h0, by simp, fun g1 e1 => ⟨_, by subst e1; rw [zSo_o, zup_s], by simp, fun g2 e2 => ?_⟩⟩
  subst e2 e1
  simp only [zSo_so]
  exact hK
/-- the size of a formula's part -/
def zfz (g : zG) (r : Option Nat) (s : Int32) : Prop := match r with
  | none => s = 0
  | some a => ∃ fs : List Value, zGo g 7 a = some fs ∧ fs[5]? = some (.int s)
theorem cp_Formula (hok : zOk X) {d0 d1 d2 d3 d4 d5 d6 : Value} (h0 : zGo g 7 a = some [d0, d1, d2, d3, d4, d5, d6]) {s0 : Nat} {x1 x2 s1 s2 : Int32} {r1 r2 : Option Nat} (h1 : zfz g r1 s1) (h2 : zfz g r2 s2) (n1 : r1 ≠ some a) (n2 : r2 ≠ some a) (hK : K none (zSo g 7 a [.ref s0, .int x1, .int x2, va_rf r1, va_rf r2, .int (1 + s1 + s2), d6])) : zCal X (d + 1) yX7_init wX7_init [.ref a, .ref s0, .int x1, .int x2, va_rf r1, va_rf r2] g K KX := by
  refine mX7_init hok a _ _ _ _ _ ⟨7, _, rfl, h0, by simp, fun g1 e1 => ⟨7, _, rfl, by subst e1; rw [zSo_o, zup_s], by simp, fun g2 e2 => ⟨7, _, rfl, by subst e2; rw [zSo_o, zup_s], by simp, fun g3 e3 => ⟨7, _, rfl, by subst e3; rw [zSo_o, zup_s], by simp, fun g4 e4 => ⟨7, _, rfl, by subst e4; rw [zSo_o, zup_s], by simp, fun g5 e5 => ?_⟩⟩⟩⟩⟩
  have e : g5 = zSo g 7 a [.ref s0, .int x1, .int x2, va_rf r1, va_rf r2, d5, d6] := by
    subst e5 e4 e3 e2 e1
    simp only [zSo_so]
    rfl
  clear e1 e2 e3 e4 e5
  subst e
  have oth : ∀ b fs, b ≠ a → zGo g 7 b = some fs → zGo (zSo g 7 a [.ref s0, .int x1, .int x2, va_rf r1, va_rf r2, d5, d6]) 7 b = some fs := fun b fs hb hq => by
    rw [zSo_o, zup_a _ _ _ _ hb]
    exact hq
  have fin : ∀ s : Int32, s = 1 + s1 + s2 → ∃ (k_20 : Nat) (fs_18 : List Value), zkc k_20 = 7 ∧ zGo (zSo g 7 a [.ref s0, .int x1, .int x2, va_rf r1, va_rf r2, d5, d6]) k_20 a = some fs_18 ∧ 5 < fs_18.length ∧ ∀ g_19 : zG, g_19 = zSo (zSo g 7 a [.ref s0, .int x1, .int x2, va_rf r1, va_rf r2, d5, d6]) k_20 a (fs_18.set 5 (.int s)) → K none g_19 := by
    intro s hs
    refine ⟨7, _, rfl, by rw [zSo_o, zup_s], by simp, fun g2 e2 => ?_⟩
    subst e2 hs
    rw [zSo_so]
    exact hK
  refine ⟨fun c => ⟨fun c2 => fin _ ?_, fun b c2 => ?_⟩, fun b c => ?_⟩
  · subst c c2
    rw [show s1 = 0 from h1, show s2 = 0 from h2]
  · subst c c2
    obtain ⟨fs, q1, q2⟩ := h2
    exact ⟨7, fs, _, rfl, oth b fs (fun z => n2 (by rw [z])) q1, q2, fin _ (by rw [show s1 = 0 from h1])⟩
  · subst c
    obtain ⟨fs, q1, q2⟩ := h1
    refine ⟨7, fs, _, rfl, oth b fs (fun z => n1 (by rw [z])) q1, q2, fun c2 => fin _ ?_, fun b2 c2 => ?_⟩
    · subst c2
      rw [show s2 = 0 from h2]
    · subst c2
      obtain ⟨fs2, q3, q4⟩ := h2
      exact ⟨7, fs2, _, rfl, oth b2 fs2 (fun z => n2 (by rw [z])) q3, q4, fin _ rfl⟩
end CTR
