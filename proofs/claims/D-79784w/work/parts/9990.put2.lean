set_option maxRecDepth 100000
theorem zff_fo {X : zX} {fa : Nat → Nat → Int32} {base p : Nat} {fo fo' : Nat → Nat} {s : Int32} (h : ∀ r : Nat, r ≤ p → fo' r = fo r) : zff X fa base fo' p s = zff X fa base fo p s := by
  unfold zff zfp1 zfp2
  have h1 : fo' (p - 1) = fo (p - 1) := h _ (by omega)
  have h2 : fo' (zf1 fa base p) = fo (zf1 fa base p) := h _ (by unfold zf1; omega)
  rw [h1, h2]
section PU2
variable {X : zX} {fi : Nat → Int32} {fa : Nat → Nat → Int32} {P : Nat} {sz fo : Nat → Nat} {g g' : zG} {Q : Nat → Prop}
/-- the stack's formulas, with a new one behind them -/
theorem zFo_put {q a p : Nat} {w n b s : Int32} (hF : zFo X fa 0 q fo g) (e : zFe Q g g') (h7 : ¬ Q 7) {x : Int32} (ha : zGo g' 7 a = some (zff X (zp2 fa q w n b s p) 0 (fun r => if r = q then a else fo r) q x)) : zFo X (zp2 fa q w n b s p) 0 (q + 1) (fun r => if r = q then a else fo r) g' := by
  intro r hr
  by_cases c : r = q
  · subst c
    refine ⟨x, ?_⟩
    show zGo g' 7 (if r = r then a else fo r) = _
    rw [if_pos rfl]
    exact ha
  · obtain ⟨y, hy⟩ := hF r (by omega)
    refine ⟨y, ?_⟩
    show zGo g' 7 (if r = q then a else fo r) = _
    rw [if_neg c]
    have e1 : zff X (zp2 fa q w n b s p) 0 (fun r => if r = q then a else fo r) r y = zff X (zp2 fa q w n b s p) 0 fo r y := zff_fo (fun u hu => if_neg (by omega))
    have e2 : zff X (zp2 fa q w n b s p) 0 fo r y = zff X fa 0 fo r y := zff_c (n := q) (fun j j1 j2 u hu => by
      obtain ⟨f16, f17, f18, f19, -⟩ := zp2_16 (fa := fa) q w n b s p
      have : j = 16 ∨ j = 17 ∨ j = 18 ∨ j = 19 := by omega
      rcases this with rfl | rfl | rfl | rfl
      · rw [f16, pk_un (by omega)]
      · rw [f17, pk_un (by omega)]
      · rw [f18, pk_un (by omega)]
      · rw [f19, pk_un (by omega)]) (by omega)
    rw [e1, e2]
    exact e.1 7 h7 _ _ hy
/-- what is at the ends of the stack: the sizes -/
theorem zSk.size (hS : zSk fi fa P sz) (hF : zFo X fa 0 (zsum sz P) fo g) {j : Nat} (hj : j < P) : zfz g (some (fo (zsum sz (j + 1) - 1))) (nI (sz j)) ∧ zsum sz (j + 1) - 1 < zsum sz P := by
  have mono : ∀ k, j + 1 ≤ k → zsum sz (j + 1) ≤ zsum sz k := fun k hk => by
    induction k with
    | zero => omega
    | succ k ih =>
      by_cases ck : j + 1 = k + 1
      · rw [ck]
        exact Nat.le_refl _
      · have := ih (by omega)
        show _ ≤ zsum sz k + sz k
        omega
  have h1 := mono P (by omega)
  have h2 := (hS.2.2.1 j hj).2.1
  have h3 : zsum sz (j + 1) = zsum sz j + sz j := rfl
  have hlt : zsum sz (j + 1) - 1 < zsum sz P := by omega
  obtain ⟨y, hy⟩ := hF _ hlt
  refine ⟨⟨_, hy, ?_⟩, hlt⟩
  unfold zff
  rw [Nat.zero_add, ← hS.2.2.2.2.2 j hj]
  rfl
end PU2
