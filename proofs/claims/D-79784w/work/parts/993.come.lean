set_option maxRecDepth 100000
theorem map_ins {f : Nat → Nat} {v : Nat} : ∀ (l : List Nat) (p : Nat), (l.insertIdx p v).map f = (l.map f).insertIdx p (f v)
  | l, 0 => by simp
  | [], p + 1 => by simp
  | a :: l, p + 1 => by
    rw [List.insertIdx_succ_cons, List.map_cons, List.map_cons, List.insertIdx_succ_cons, map_ins l p]
section COM
variable {X : zX} {d : Nat} {x : Nat} {ad fo eo : Nat → Nat} {mo : Nat → Nat → Nat} {c : Nat → Nat × Nat × Nat} {pt pt' : Nat → Nat} {fi fi' : Nat → Int32} {fa fa' : Nat → Nat → Int32} {lg : List Nat} {M P : Nat} {np sz : Nat → Nat} {g g' : zG} {Q : Nat → Prop} {K : Option Value → zG → Prop} {KX : String → zG → Prop}
/-- a monitor, when the class object changes -/
theorem zMs.nx {i np : Nat} {mo fo : Nat → Nat} {t : Int32} (h : zMs X i x ad mo fo np t fi fa g) (hi : i < 6) (e : zFe Q g g') (hx : zGo g' 1 x = some (zxs ad fi')) (h7 : ¬ Q 7) (h8 : ¬ Q 8) (h9 : ¬ Q 9) (h80 : ¬ Q (80 + 3 * i)) (h52 : ¬ Q (1052 + i)) : zMs X i x ad mo fo np t fi' fa g' := by
  obtain ⟨a1, -, ⟨q, a3⟩, a4, a5⟩ := h
  exact ⟨e.1 8 h8 _ _ a1, hx, ⟨q, a3.fe e h80⟩, fun p hp => e.1 7 h7 _ _ (a4 p hp), a5.fe hi e h9 h52⟩
theorem zWg.nx {i np m : Nat} {mo : Nat → Nat} {t : Int32} {kp sc : Nat → Int32} (h : zWg X x ad mo fo pt fi fa np i t m kp sc g) (hi : i < 6) (e : zFe Q g g') (hx : zGo g' 1 x = some (zxs ad fi')) (h6 : ¬ Q 6) (h7 : ¬ Q 7) (h8 : ¬ Q 8) (h9 : ¬ Q 9) (k0 : ¬ Q (80 + 3 * i)) (k1 : ¬ Q (81 + 3 * i)) (k2 : ¬ Q (82 + 3 * i)) (h52 : ¬ Q (1052 + i)) : zWg X x ad mo fo pt fi' fa np i t m kp sc g' := by
  obtain ⟨a, ⟨l, b⟩, k⟩ := h
  exact ⟨a.nx hi e hx h7 h8 h9 k0 h52, ⟨l, b.fe e k2⟩, k.fe e k1 h6⟩
theorem zWg.cg {i np m : Nat} {mo : Nat → Nat} {t : Int32} {kp sc : Nat → Int32} (h : zWg X x ad mo fo pt fi fa np i t m kp sc g) (h0 : fi' 1 = fi 1 ∧ fi' 2 = fi 2 ∧ fi' 4 = fi 4 ∧ fi' 5 = fi 5) (h1 : ∀ j : Nat, 16 ≤ j → j ≤ 19 → ∀ p : Nat, p < np → fa' j (192 + 24 * i + p) = fa j (192 + 24 * i + p)) (h2 : fa' 21 i = fa 21 i) (h3 : fa' 22 i = fa 22 i) : zWg X x ad mo fo pt fi' fa' np i t m kp sc g := ⟨h.1.cg h0 h1 h2 h3, h.2⟩
/-- what a monitor knows then, as the model keeps it -/
theorem zWg.kn {ans : Nat → Nat → Int32} {nn : Int32} {i old len : Nat} (h : zWg X x ad (mo i) fo pt fi fa (np i) i (ztk fa (ans i) i old len) len (zkq fa (ans i) i len) (zsq fa (ans i) nn i old len) g) (hk : zka fa ans nn old len M fa') (hi : i < M) (hl : len ≤ 80) (h0 : fi' 1 = fi 1 ∧ fi' 2 = fi 2 ∧ fi' 4 = fi 4 ∧ fi' 5 = fi 5) : zWm X x ad (mo i) fo pt fi' fa' len (np i) i g := by
  obtain ⟨k1, k2, k3, k4⟩ := hk
  obtain ⟨a, b, q⟩ := h
  have f (j : Nat) (j1 : j ≠ 24) (j2 : j ≠ 25) (j3 : j ≠ 26) (j4 : j ≠ 28) (j5 : j ≠ 30) (j6 : j ≠ 32) (j7 : j ≠ 33) : fa' j = fa j := k1 j j1 j2 j3 j4 j5 j6 j7
  refine ⟨?_, b, q.cg (fun v hv => ?_) (fun v hv => ?_)⟩
  · rw [k4 i, if_pos hi]
    exact a.cg h0 (fun j h1 h2 p _ => by rw [f j (by omega) (by omega) (by omega) (by omega) (by omega) (by omega) (by omega)]) (by rw [f 21 (by decide) (by decide) (by decide) (by decide) (by decide) (by decide) (by decide)]) (by rw [f 22 (by decide) (by decide) (by decide) (by decide) (by decide) (by decide) (by decide)])
  · show fa' 25 (80 * i + v) = _
    rw [k2 i v (by omega), if_pos ⟨hi, hv⟩]
    exact (if_pos hv).symm
  · show fa' 26 (80 * i + v) = _
    rw [k3 i v (by omega)]
    unfold zsq
    by_cases c : old ≤ v ∨ ¬ fa 25 (80 * i + v) = ans i v
    · rw [if_pos ⟨hi, hv, c⟩, if_pos ⟨hv, c⟩]
    · rw [if_neg (fun z => c z.2.2), if_neg (fun z => c z.2)]
/-- where the model puts a new event, times rise -/
theorem zpl_at (b : Nat → Bool) : ∀ k : Nat, (∀ j, zpl b k ≤ j → j < k → b j = true) ∧ (0 < zpl b k → b (zpl b k - 1) = false)
  | 0 => ⟨fun j _ h => absurd h (Nat.not_lt_zero j), fun h => absurd h (Nat.lt_irrefl 0)⟩
  | k + 1 => by
    obtain ⟨h1, h2⟩ := zpl_at b k
    by_cases c : b k = true
    · rw [zpl_t c]
      refine ⟨fun j hj hk => ?_, h2⟩
      by_cases e : j = k
      · rw [e]
        exact c
      · exact h1 j hj (by omega)
    · have cf : b k = false := by simpa using c
      rw [zpl_f cf]
      exact ⟨fun j hj hk => by omega, fun _ => cf⟩
theorem zri_ins {fa' : Nat → Nat → Int32} {nd wh : Int32} (h : zri fa lg) (he : ∀ v ∈ lg, fa' 7 v = fa 7 v) (hn : fa' 7 lg.length = wh) : zri fa' (zlg fa lg nd wh) := by
  obtain ⟨p1, p2⟩ := zpl_at (fun k => zah fa nd wh (zr lg k)) lg.length
  have hle := zpc_le fa lg nd wh
  have g1 : ∀ j, zpc fa lg nd wh ≤ j → j < lg.length → wh ≤ fa 7 (zr lg j) := fun j h1 h2 => by
    have := p1 j h1 h2
    unfold zah at this
    rw [Bool.or_eq_true, Bool.and_eq_true, decide_eq_true_iff, beq_iff_eq] at this
    rcases this with z | z
    · exact Int32.le_of_lt z
    · rw [z.1]
      exact Int32.le_refl _
  have g2 : ∀ j, j < zpc fa lg nd wh → fa 7 (zr lg j) ≤ wh := fun j h1 => by
    have := p2 (show 0 < zpl (fun k => zah fa nd wh (zr lg k)) lg.length from Nat.lt_of_le_of_lt (Nat.zero_le _) h1)
    have z : ¬ wh < fa 7 (zr lg (zpc fa lg nd wh - 1)) := fun z => by
      have e : zah fa nd wh (zr lg (zpc fa lg nd wh - 1)) = true := by
        unfold zah
        rw [decide_eq_true z]
        rfl
      rw [show zah fa nd wh (zr lg (zpc fa lg nd wh - 1)) = false from this] at e
      exact absurd e (by decide)
    exact Int32.le_trans (h j (zpc fa lg nd wh - 1) (by omega) (by omega)) (Int32.not_lt.mp z)
  have hlen : (zlg fa lg nd wh).length = lg.length + 1 := by
    unfold zlg
    exact List.length_insertIdx_of_le_length hle _
  have val : ∀ k, k < lg.length + 1 → fa' 7 (zr (zlg fa lg nd wh) k) = if k < zpc fa lg nd wh then fa 7 (zr lg k) else if k = zpc fa lg nd wh then wh else fa 7 (zr lg (k - 1)) := fun k hk => by
    unfold zlg
    rw [zr_ins hle]
    by_cases c1 : k < zpc fa lg nd wh
    · rw [if_pos c1, if_pos c1]
      exact he _ (zr_mem (by omega))
    · rw [if_neg c1, if_neg c1]
      by_cases c2 : k = zpc fa lg nd wh
      · rw [if_pos c2, if_pos c2]
        exact hn
      · rw [if_neg c2, if_neg c2]
        exact he _ (zr_mem (by omega))
  intro j k hjk hk
  rw [hlen] at hk
  rw [val j (by omega), val k hk]
  by_cases c1 : k < zpc fa lg nd wh
  · rw [if_pos (by omega), if_pos c1]
    exact h j k hjk (by omega)
  · rw [if_neg c1]
    by_cases c2 : k = zpc fa lg nd wh
    · rw [if_pos c2]
      by_cases c3 : j < zpc fa lg nd wh
      · rw [if_pos c3]
        exact g2 j c3
      · rw [if_neg c3, if_pos (by omega)]
        exact Int32.le_refl _
    · rw [if_neg c2]
      by_cases c3 : j < zpc fa lg nd wh
      · rw [if_pos c3]
        exact h j (k - 1) (by omega) (by omega)
      · rw [if_neg c3]
        by_cases c4 : j = zpc fa lg nd wh
        · rw [if_pos c4]
          exact g1 (k - 1) (by omega) (by omega)
        · rw [if_neg c4]
          exact h (j - 1) (k - 1) (by omega) (by omega)
end COM
