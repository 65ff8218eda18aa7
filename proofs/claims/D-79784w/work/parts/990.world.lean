set_option maxRecDepth 100000
/-- the sum of what lists may cost yet -/
def zpS (pt : Nat → Nat) : Nat → Nat
  | 0 => 0
  | k + 1 => zpS pt k + pt (64 + k)
def zpu (pt : Nat → Nat) (k v : Nat) : Nat → Nat := fun j => if j = k then v else pt j
theorem zpu_s (pt : Nat → Nat) (k v : Nat) : zpu pt k v k = v := if_pos rfl
theorem zpu_n (pt : Nat → Nat) {k j : Nat} (v : Nat) (h : j ≠ k) : zpu pt k v j = pt j := if_neg h
theorem zpS_u (pt : Nat → Nat) (k v : Nat) : ∀ n : Nat, zpS (zpu pt (64 + k) v) n + (if k < n then pt (64 + k) else 0) = zpS pt n + (if k < n then v else 0)
  | 0 => rfl
  | n + 1 => by
    have ih := zpS_u pt k v n
    show zpS (zpu pt (64 + k) v) n + zpu pt (64 + k) v (64 + n) + _ = zpS pt n + pt (64 + n) + _
    by_cases c : k = n
    · subst c
      rw [if_neg (Nat.lt_irrefl k), if_neg (Nat.lt_irrefl k)] at ih
      rw [if_pos (by omega), if_pos (by omega), zpu_s]
      omega
    · rw [zpu_n _ _ (by omega)]
      by_cases c2 : k < n
      · rw [if_pos c2, if_pos c2] at ih
        rw [if_pos (by omega), if_pos (by omega)]
        omega
      · rw [if_neg c2, if_neg c2] at ih
        rw [if_neg (by omega), if_neg (by omega)]
        omega
/-- all that persistent lists may cost yet: kinds 64 to 97 -/
def zpT (pt : Nat → Nat) : Nat := zpS pt 34
theorem zpT_u (pt : Nat → Nat) {k : Nat} (v : Nat) (h1 : 64 ≤ k) (h2 : k < 98) : zpT (zpu pt k v) + pt k = zpT pt + v := by
  have := zpS_u pt (k - 64) v 34
  rw [show 64 + (k - 64) = k by omega, if_pos (by omega), if_pos (by omega)] at this
  exact this
/-- one monitor, with what it knows -/
def zWm (X : zX) (x : Nat) (ad : Nat → Nat) (mo : Nat → Nat) (fo : Nat → Nat) (pt : Nat → Nat) (fi : Nat → Int32) (fa : Nat → Nat → Int32) (n np i : Nat) (g : zG) : Prop :=
  zMs X i x ad mo (fun p => fo (192 + 24 * i + p)) np (fa 24 i) fi fa g ∧ (∃ l : List Nat, zLs X g (82 + 3 * i) (mo 3) l (pt (82 + 3 * i))) ∧ zKn X i (mo 5) n (fun v => fa 25 (80 * i + v)) (fun v => fa 26 (80 * i + v)) (pt (81 + 3 * i)) g
/-- the class's things but its monitors -/
def zWb (X : zX) (x : Nat) (ad fo eo : Nat → Nat) (mo : Nat → Nat → Nat) (c : Nat → Nat × Nat × Nat) (pt : Nat → Nat) (fi : Nat → Int32) (fa : Nat → Nat → Int32) (lg : List Nat) (M P : Nat) (sz : Nat → Nat) (g : zG) : Prop :=
  zGo g 1 x = some (zxs ad fi) ∧ zGi g 50 (ad 0) = some (4, fa 0) ∧ zEv X ad eo lg.length fa (pt 64) g ∧ zLA X 65 (ad 3) (pt 65) eo fa lg g ∧
  (∃ l : List Nat, l.length = 8 ∧ zLs X g 66 (ad 4) l (pt 66) ∧ ∀ kd : Nat, kd < 8 → zTr kd c g 14 (zr l kd) 0 11000 (zEk fa (nI kd) lg.length)) ∧
  zLs X g 67 (ad 8) ((List.range P).map (fun j => fo (zsum sz (j + 1) - 1))) (pt 67) ∧ zLs X g 68 (ad 9) ((List.range M).map (fun i => mo i 0)) (pt 68) ∧
  (∃ f : Nat → Int32, zGi g 51 (ad 10) = some (80, f)) ∧ (∃ l : List Nat, zLs X g 69 (ad 11) l (pt 69)) ∧ zFo X fa 0 (zsum sz P) fo g
/-- the class's things -/
def zWd (X : zX) (x : Nat) (ad fo eo : Nat → Nat) (mo : Nat → Nat → Nat) (c : Nat → Nat × Nat × Nat) (pt : Nat → Nat) (fi : Nat → Int32) (fa : Nat → Nat → Int32) (lg : List Nat) (M P : Nat) (np sz : Nat → Nat) (g : zG) : Prop :=
  zWb X x ad fo eo mo c pt fi fa lg M P sz g ∧ ∀ i : Nat, i < M → zWm X x ad (mo i) fo pt fi fa lg.length (np i) i g
/-- what lies at the same model places is the same thing, and no other -/
def zWj (fo : Nat → Nat) (mo : Nat → Nat → Nat) (M P : Nat) (np sz : Nat → Nat) : Prop :=
  (∀ i : Nat, i < M → zMj (mo i) (np i)) ∧ (∀ i j : Nat, i < M → j < M → mo i 0 = mo j 0 → i = j) ∧ (∀ p q : Nat, p < zsum sz P → q < zsum sz P → fo p = fo q → p = q) ∧ ∀ p i q : Nat, p < zsum sz P → i < M → q < np i → fo p ≠ fo (192 + 24 * i + q)
/-- what is so of the model's numbers -/
def zPv (fi : Nat → Int32) (fa : Nat → Nat → Int32) (lg : List Nat) (M P : Nat) (np sz : Nat → Nat) : Prop :=
  zLg fi fa lg ∧ (∀ k : Nat, k < lg.length → k ∈ lg) ∧ zMo fi fa M np ∧ zSk fi fa P sz ∧ zLi fi fa lg ∧ zIr fa lg.length ∧ (∀ v : Nat, v < lg.length → (∃ k : Nat, k < 4 ∧ fa 6 v = nI k) ∧ (∃ k : Nat, k < 8 ∧ fa 8 v = nI k) ∧ zbo (fa 11 v)) ∧
  (∀ i : Nat, i < M → zFc i (np i) fa ∧ zFb fa (192 + 24 * i) (np i)) ∧ zFb fa 0 (zsum sz P) ∧ (∀ p : Nat, p < zsum sz P → fa 16 p = 1 → (fa 17 p = 0 ∨ fa 17 p = 1 ∨ fa 17 p = 2) ∧ -1000 ≤ (fa 18 p).toInt ∧ (fa 18 p).toInt ≤ 1000) ∧
  (∀ k : Nat, k < 4 → -1000 ≤ (fa 0 k).toInt ∧ (fa 0 k).toInt ≤ 1000) ∧ (0 ≤ (fi 1).toInt ∧ (fi 1).toInt ≤ 1000) ∧
  ∀ i v : Nat, i < M → v < lg.length → fa 25 (80 * i + v) = zAn fi fa i (np i) lg lg.length v
theorem zFo.fe {X : zX} {P : Nat → Prop} {g g' : zG} {fa : Nat → Nat → Int32} {base n : Nat} {fo : Nat → Nat} (h : zFo X fa base n fo g) (e : zFe P g g') (h7 : ¬ P 7) : zFo X fa base n fo g' := fun q hq => by
  obtain ⟨s, hs⟩ := h q hq
  exact ⟨s, e.1 7 h7 _ _ hs⟩
section WLD
variable {X : zX} {x : Nat} {ad fo eo : Nat → Nat} {mo : Nat → Nat → Nat} {c : Nat → Nat × Nat × Nat} {pt : Nat → Nat} {fi : Nat → Int32} {fa : Nat → Nat → Int32} {lg : List Nat} {M P : Nat} {np sz : Nat → Nat} {g g' : zG} {Q : Nat → Prop}
theorem zWb.fe (h : zWb X x ad fo eo mo c pt fi fa lg M P sz g) (e : zFe Q g g') (h1 : ∀ k, k < 16 → k ≠ 3 → k ≠ 8 → k ≠ 9 → k ≠ 11 → ¬ Q k) (h2 : ∀ k, 64 ≤ k → k < 70 → ¬ Q k) (h3 : ¬ Q 1050) (h4 : ¬ Q 1051) : zWb X x ad fo eo mo c pt fi fa lg M P sz g' := by
  obtain ⟨a1, a2, a3, a4, ⟨l, l1, l2, l3⟩, a6, a7, ⟨f, a8⟩, ⟨l', a9⟩, a10⟩ := h
  have n (k : Nat) (hk : k < 16) (h3 : k ≠ 3) (h8 : k ≠ 8) (h9 : k ≠ 9) (h11 : k ≠ 11) : ¬ Q k := h1 k hk h3 h8 h9 h11
  refine ⟨e.1 1 (n 1 (by omega) (by omega) (by omega) (by omega) (by omega)) _ _ a1, e.2.1 50 h3 _ _ a2, a3.fe e (h2 64 (by omega) (by omega)) (n 4 (by omega) (by omega) (by omega) (by omega) (by omega)), a4.fe e (h2 65 (by omega) (by omega)) (n 4 (by omega) (by omega) (by omega) (by omega) (by omega)), ⟨l, l1, l2.fe e (h2 66 (by omega) (by omega)), fun kd hkd => ?_⟩, a6.fe e (h2 67 (by omega) (by omega)), a7.fe e (h2 68 (by omega) (by omega)), ⟨f, e.2.1 51 h4 _ _ a8⟩, ⟨l', a9.fe e (h2 69 (by omega) (by omega))⟩, a10.fe e (n 7 (by omega) (by omega) (by omega) (by omega) (by omega))⟩
  exact zTr.fr e (n 5 (by omega) (by omega) (by omega) (by omega) (by omega)) 14 _ _ _ _ (l3 kd hkd) (fun b l r fs k1 _ _ _ _ => ⟨e.1 2 (n 2 (by omega) (by omega) (by omega) (by omega) (by omega)) _ _ k1, rfl⟩)
theorem zWm.fe {i n np : Nat} {mo : Nat → Nat} (h : zWm X x ad mo fo pt fi fa n np i g) (hi : i < 6) (e : zFe Q g g') (h1 : ∀ k, k < 16 → k ≠ 3 → k ≠ 11 → ¬ Q k) (h2 : ¬ Q (80 + 3 * i)) (h3 : ¬ Q (81 + 3 * i)) (h4 : ¬ Q (82 + 3 * i)) (h5 : ¬ Q (1052 + i)) : zWm X x ad mo fo pt fi fa n np i g' := by
  obtain ⟨a1, ⟨l, a2⟩, a3⟩ := h
  exact ⟨a1.fe hi e (h1 1 (by omega) (by omega) (by omega)) (h1 7 (by omega) (by omega) (by omega)) (h1 8 (by omega) (by omega) (by omega)) (h1 9 (by omega) (by omega) (by omega)) h2 h5, ⟨l, a2.fe e h4⟩, a3.fe e h3 (h1 6 (by omega) (by omega) (by omega))⟩
/-- the model's calls change nothing of it -/
theorem zWd.fm (h : zWd X x ad fo eo mo c pt fi fa lg M P np sz g) (hM : M ≤ 6) (e : zFe zPm g g') : zWd X x ad fo eo mo c pt fi fa lg M P np sz g' :=
  ⟨h.1.fe e (fun k hk h3 _ _ _ => by unfold zPm; omega) (fun k _ _ => by unfold zPm; omega) (by unfold zPm; omega) (by unfold zPm; omega), fun i hi => (h.2 i hi).fe (by omega) e (fun k hk h3 _ => by unfold zPm; omega) (by unfold zPm; omega) (by unfold zPm; omega) (by unfold zPm; omega) (by unfold zPm; omega)⟩
/-- what the class's things may be -/
def zPc (k : Nat) : Prop := k ≠ 3 ∧ k ≠ 999 ∧ (k < 1000 ∨ (1050 ≤ k ∧ k < 1100))
/-- the class's calls change nothing of the model -/
theorem zMd.fc {m : Nat} {adm : Nat → Nat} (h : zMd g m fi adm fa) (e : zFe zPc g g') : zMd g' m fi adm fa := by
  refine ⟨e.1 3 (fun z => z.1 rfl) _ _ h.1, fun j hj => e.2.1 _ (fun z => ?_) _ _ (h.2 j hj)⟩
  have ht : ∀ j ∈ zMa, ztg j < 50 ∨ 100 ≤ ztg j := by decide
  have := ht j hj
  obtain ⟨-, -, z⟩ := z
  omega
end WLD
