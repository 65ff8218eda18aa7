set_option maxRecDepth 100000
/-- one set of arrays behind keeps -/
def zkO (fa : Nat → Nat → Int32) (ans : Nat → Int32) (n : Int32) (i old k : Nat) : Nat → Nat → Int32 := va_up (va_up (va_up fa 24 (fun j => if j = i then ztk fa ans i old k else fa 24 j)) 25 (zkp fa ans i k)) 26 (zsc' fa ans n i old k)
theorem zkR_self (fa : Nat → Nat → Int32) (ans : Nat → Int32) (n : Int32) (i old k : Nat) : zkR fa ans n i old k (zkO fa ans n i old k) := ⟨fun j h1 h2 h3 _ _ _ _ => by
  unfold zkO
  rw [va_up_ne _ _ h3, va_up_ne _ _ h2, va_up_ne _ _ h1], fun _ => rfl, fun _ => rfl, fun _ => rfl⟩
section WP
variable {fi fi' : Nat → Int32} {fa fa' : Nat → Nat → Int32} {lg : List Nat} {M n : Nat} {np sz : Nat → Nat} {x1 x2 : Int32}
theorem zw2_old {j r : Nat} (h1 : 16 ≤ j) (h2 : j ≤ 19) (hr : r < 192 + 24 * M) : zw2 fa M n x1 x2 j r = fa j r := by
  rw [zw2_i _ _ _ _ _ (by omega), zwc_i _ _ _ ⟨h1, h2⟩, zcpy_o _ _ _ _ (Or.inl hr)]
theorem zw2_new {j p : Nat} (h1 : 16 ≤ j) (h2 : j ≤ 19) (hp : p < n) : zw2 fa M n x1 x2 j (192 + 24 * M + p) = fa j p := by
  rw [zw2_i _ _ _ _ _ (by omega), zwc_i _ _ _ ⟨h1, h2⟩, zcpy_i _ _ _ _ hp]
theorem zw2_oth {j : Nat} (h : j < 16 ∨ 24 < j ∨ j = 20) : zw2 fa M n x1 x2 j = fa j := by
  rw [zw2_i _ _ _ _ _ (by omega), zwc_o _ _ _ (by omega)]
theorem zw2_21 : zw2 fa M n x1 x2 21 = upd (fa 21) M x1 ∧ zw2 fa M n x1 x2 22 = upd (fa 22) M x2 ∧ zw2 fa M n x1 x2 23 = upd (fa 23) M (nI n) ∧ zw2 fa M n x1 x2 24 = upd (fa 24) M 0 := ⟨rfl, rfl, rfl, rfl⟩
/-- the sizes' functions of monitors, with a new one -/
def znp (np : Nat → Nat) (M n : Nat) : Nat → Nat := fun i => if i = M then n else np i
theorem znp_s : znp np M n M = n := if_pos rfl
theorem znp_n {i : Nat} (h : i ≠ M) : znp np M n i = np i := if_neg h
theorem zAn_w {i v : Nat} (hV : zPv fi fa lg M 1 np sz) (hi : i < M) (h : ∀ j, j ≠ 24 → j ≠ 25 → j ≠ 26 → j ≠ 28 → j ≠ 30 → j ≠ 32 → j ≠ 33 → fa' j = zw2 fa M n x1 x2 j) (h2 : fi' 2 = fi 2) (h5 : fi' 5 = fi 5) : zAn fi' fa' i (np i) lg lg.length v = zAn fi fa i (np i) lg lg.length v := by
  have hM := hV.2.2.1
  obtain ⟨m1, m2, -⟩ := hM.2.2 i hi
  refine zAn_cp v h2 h5 ?_ ?_ ?_ ?_ ?_ m2 (fun j j1 j2 p hp => ?_)
  · rw [h 7 (by decide) (by decide) (by decide) (by decide) (by decide) (by decide) (by decide), zw2_oth (by omega)]
  · rw [h 8 (by decide) (by decide) (by decide) (by decide) (by decide) (by decide) (by decide), zw2_oth (by omega)]
  · rw [h 9 (by decide) (by decide) (by decide) (by decide) (by decide) (by decide) (by decide), zw2_oth (by omega)]
  · rw [h 10 (by decide) (by decide) (by decide) (by decide) (by decide) (by decide) (by decide), zw2_oth (by omega)]
  · rw [h 21 (by decide) (by decide) (by decide) (by decide) (by decide) (by decide) (by decide), zw2_21.1, pk_un (by omega)]
  · rw [h j (by omega) (by omega) (by omega) (by omega) (by omega) (by omega) (by omega), zw2_old j1 j2 (by omega)]
theorem zPv_wt (hV : zPv fi fa lg M 1 np sz) (hM6 : M < 6) (hn : sz 0 = n) (h : zwt fi fa lg M n x1 x2 fi' fa') : zPv fi' fa' lg (M + 1) 0 (znp np M n) sz := by
  have hV0 := hV
  obtain ⟨b1, b2, b3, b4, b5, b6, b7, b8, b9, b10, b11, b12, b13⟩ := hV
  obtain ⟨hf, r1, r2, r3, r4⟩ := h
  have fj (j : Nat) (h1 : j ≠ 27) (h2 : j ≠ 29) (h3 : j ≠ 31) : fi' j = zw1 fi M j := hf j h1 h2 h3
  have aj (j : Nat) (h1 : j ≠ 24) (h2 : j ≠ 25) (h3 : j ≠ 26) (h4 : j ≠ 28) (h5 : j ≠ 30) (h6 : j ≠ 32) (h7 : j ≠ 33) : fa' j = zw2 fa M n x1 x2 j := r1 j h1 h2 h3 h4 h5 h6 h7
  have lo (j : Nat) (h : j < 16) : fa' j = fa j := by rw [aj j (by omega) (by omega) (by omega) (by omega) (by omega) (by omega) (by omega), zw2_oth (by omega)]
  obtain ⟨s1, s2, s3, s4, s5, s6⟩ := id b4
  have hs : zsum sz 1 = n := by
    show 0 + sz 0 = n
    omega
  have hn1 := (s3 0 (by omega)).2
  rw [hn] at hn1
  rw [hs] at s5 b9 b10
  have old : ∀ i, i < M → ∀ j, 16 ≤ j → j ≤ 19 → ∀ p, p < np i → fa' j (192 + 24 * i + p) = fa j (192 + 24 * i + p) := fun i hi j h1 h2 p hp => by
    have := (b3.2.2 i hi).1
    rw [aj j (by omega) (by omega) (by omega) (by omega) (by omega) (by omega) (by omega), zw2_old h1 h2 (by omega)]
  have new : ∀ j, 16 ≤ j → j ≤ 19 → ∀ p, p < n → fa' j (192 + 24 * M + p) = fa j (0 + p) := fun j h1 h2 p hp => by
    rw [aj j (by omega) (by omega) (by omega) (by omega) (by omega) (by omega) (by omega), zw2_new h1 h2 hp, Nat.zero_add]
  have wf : zwf fa' (192 + 24 * M) n := by
    have w := zwf_cpy (M := M) (x1 := x1) (x2 := x2) s5
    exact w.cg (fun p hp => by rw [aj 16 (by decide) (by decide) (by decide) (by decide) (by decide) (by decide) (by decide)]) (fun p hp => by rw [aj 19 (by decide) (by decide) (by decide) (by decide) (by decide) (by decide) (by decide)])
  refine ⟨?_, b2, ⟨by omega, fj 20 (by decide) (by decide) (by decide), fun i hi => ?_⟩, ⟨(fj 13 (by decide) (by decide) (by decide)).trans (show zw1 fi M 13 = nI 0 from nI_0.symm), by omega, fun j hj => absurd hj (Nat.not_lt_zero j), (fj 15 (by decide) (by decide) (by decide)).trans (show zw1 fi M 15 = nI 0 from nI_0.symm), fun p hp => absurd hp (Nat.not_lt_zero p), fun j hj => absurd hj (Nat.not_lt_zero j)⟩, ?_, ?_, ?_, fun i hi => ?_, fun q hq => absurd hq (Nat.not_lt_zero q), fun p hp => absurd hp (Nat.not_lt_zero p), ?_, ?_, fun i v hi hv => ?_⟩
  · obtain ⟨q1, q2, q3, q4, q5⟩ := b1
    exact ⟨(fj 3 (by decide) (by decide) (by decide)).trans q1, q2, q3, q4, by rw [lo 12 (by omega)]; exact q5⟩
  · by_cases c : i = M
    · rw [c, znp_s]
      exact ⟨by omega, by omega, wf, by rw [aj 23 (by decide) (by decide) (by decide) (by decide) (by decide) (by decide) (by decide), zw2_21.2.2.1, pk_us]⟩
    · rw [znp_n c]
      obtain ⟨q1, q2, q3, q4⟩ := b3.2.2 i (by omega)
      exact ⟨q1, q2, q3.cg (fun p hp => old i (by omega) 16 (by omega) (by omega) p hp) (fun p hp => old i (by omega) 19 (by omega) (by omega) p hp), by rw [aj 23 (by decide) (by decide) (by decide) (by decide) (by decide) (by decide) (by decide), zw2_21.2.2.1, pk_un c]; exact q4⟩
  · unfold zLi zri zti at b5 ⊢
    rw [fj 5 (by decide) (by decide) (by decide), lo 7 (by omega), lo 10 (by omega)]
    exact b5
  · intro v hv
    rw [lo 9 (by omega)]
    exact b6 v hv
  · intro v hv
    rw [lo 6 (by omega), lo 8 (by omega), lo 11 (by omega)]
    exact b7 v hv
  · by_cases c : i = M
    · rw [c, znp_s]
      refine ⟨⟨wf, by omega, by omega, fun p hp => ?_⟩, fun p hp => ?_⟩
      · rw [new 16 (by omega) (by omega) p hp, new 17 (by omega) (by omega) p hp, new 18 (by omega) (by omega) p hp, Nat.zero_add]
        exact b10 p hp
      · rw [new 16 (by omega) (by omega) p hp, new 18 (by omega) (by omega) p hp]
        exact b9 p hp
    · rw [znp_n c]
      obtain ⟨⟨q1, q2, q3, q4⟩, q5⟩ := b8 i (by omega)
      refine ⟨⟨q1.cg (fun p hp => old i (by omega) 16 (by omega) (by omega) p hp) (fun p hp => old i (by omega) 19 (by omega) (by omega) p hp), q2, q3, fun p hp => ?_⟩, fun p hp => ?_⟩
      · rw [old i (by omega) 16 (by omega) (by omega) p hp, old i (by omega) 17 (by omega) (by omega) p hp, old i (by omega) 18 (by omega) (by omega) p hp]
        exact q4 p hp
      · rw [old i (by omega) 16 (by omega) (by omega) p hp, old i (by omega) 18 (by omega) (by omega) p hp]
        exact q5 p hp
  · rw [lo 0 (by omega)]
    exact b11
  · rw [fj 1 (by decide) (by decide) (by decide)]
    exact b12
  · have h80 := b1.2.1
    rw [r2]
    unfold zkp
    by_cases c : i = M
    · rw [c, znp_s, if_pos (by omega), show 80 * M + v - 80 * M = v by omega]
      exact (congrFun (zAn_sa ⟨fj 2 (by decide) (by decide) (by decide), fj 5 (by decide) (by decide) (by decide), aj 7 (by decide) (by decide) (by decide) (by decide) (by decide) (by decide) (by decide), aj 8 (by decide) (by decide) (by decide) (by decide) (by decide) (by decide) (by decide), aj 9 (by decide) (by decide) (by decide) (by decide) (by decide) (by decide) (by decide), aj 10 (by decide) (by decide) (by decide) (by decide) (by decide) (by decide) (by decide), aj 16 (by decide) (by decide) (by decide) (by decide) (by decide) (by decide) (by decide), aj 17 (by decide) (by decide) (by decide) (by decide) (by decide) (by decide) (by decide), aj 18 (by decide) (by decide) (by decide) (by decide) (by decide) (by decide) (by decide), aj 19 (by decide) (by decide) (by decide) (by decide) (by decide) (by decide) (by decide), aj 21 (by decide) (by decide) (by decide) (by decide) (by decide) (by decide) (by decide)⟩) v).symm
    · rw [znp_n c, if_neg (by omega), zw2_oth (by omega), b13 i v (by omega) hv]
      exact (zAn_w hV0 (show i < M by omega) r1 (fj 2 (by decide) (by decide) (by decide)) (fj 5 (by decide) (by decide) (by decide))).symm
end WP
