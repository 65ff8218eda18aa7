set_option maxRecDepth 100000
/-- the sizes, with a new part in place of the last ones -/
def zsu (sz : Nat → Nat) (k S : Nat) : Nat → Nat := fun j => if j = k then S else sz j
theorem zsum_u {sz : Nat → Nat} {k S : Nat} : ∀ n : Nat, n ≤ k → zsum (zsu sz k S) n = zsum sz n
  | 0, _ => rfl
  | n + 1, h => by
    show zsum (zsu sz k S) n + zsu sz k S n = zsum sz n + sz n
    rw [zsum_u n (by omega)]
    unfold zsu
    rw [if_neg (by omega)]
theorem zsum_u1 {sz : Nat → Nat} {k S : Nat} : zsum (zsu sz k S) (k + 1) = zsum sz k + S := by
  show zsum (zsu sz k S) k + zsu sz k S k = _
  rw [zsum_u k (Nat.le_refl k)]
  unfold zsu
  rw [if_pos rfl]
/-- the sum, by how many parts are taken -/
theorem zsum_s {sz : Nat → Nat} {P s : Nat} (hs2 : s ≤ 2) (hs : s ≤ P) : zsum sz P + 1 = zsum sz (P - s) + zsS sz P s := by
  match s, hs2, hs with
  | 0, _, _ => rfl
  | 1, _, hs =>
    obtain ⟨p, rfl⟩ : ∃ p, P = p + 1 := ⟨P - 1, by omega⟩
    show zsum sz p + sz p + 1 = zsum sz p + (1 + (if 0 < p + 1 then sz (p + 1 - 1 - 0) else 0))
    rw [if_pos (by omega)]
    show _ = zsum sz p + (1 + sz p)
    omega
  | 2, _, hs =>
    obtain ⟨p, rfl⟩ : ∃ p, P = p + 2 := ⟨P - 2, by omega⟩
    show zsum sz p + sz p + sz (p + 1) + 1 = zsum sz p + (1 + (if 0 < p + 2 then sz (p + 2 - 1 - 0) else 0) + (if 1 < p + 2 then sz (p + 2 - 1 - 1) else 0))
    rw [if_pos (by omega), if_pos (by omega)]
    show _ = zsum sz p + (1 + sz (p + 1) + sz p)
    omega
section PUT
variable {fi : Nat → Int32} {fa : Nat → Nat → Int32} {P : Nat} {sz : Nat → Nat}
theorem zp2_16 (q : Nat) (w n b s : Int32) (p : Nat) : zp2 fa q w n b s p 16 = upd (fa 16) q w ∧ zp2 fa q w n b s p 17 = upd (fa 17) q n ∧ zp2 fa q w n b s p 18 = upd (fa 18) q b ∧ zp2 fa q w n b s p 19 = upd (fa 19) q s ∧ zp2 fa q w n b s p 14 = upd (fa 14) p s := ⟨rfl, rfl, rfl, rfl, rfl⟩
theorem zSk_put (hS : zSk fi fa P sz) {w s : Nat} {n b : Int32} (hw : w < 12) (hay : zay w = s) (hs : s ≤ P) (h24 : zsS sz P s ≤ 24) (h8 : P + 1 - s ≤ 8) : zSk (zp1 (va_up fi 34 0) (zsum sz P) (P + 1 - s)) (zp2 fa (zsum sz P) (nI w) n b (nI (zsS sz P s)) (P - s)) (P + 1 - s) (zsu sz (P - s) (zsS sz P s)) := by
  have hq := hS.le
  obtain ⟨s1, s2, s3, s4, s5, s6⟩ := hS
  have hs2 : s ≤ 2 := by
    rw [← hay]
    unfold zay
    split
    · omega
    · split <;> omega
  have hsum := zsum_s (sz := sz) hs2 hs
  have hk : P + 1 - s = P - s + 1 := by omega
  have hpos : 1 ≤ zsS sz P s := by
    match s with
    | 0 => exact Nat.le_refl 1
    | s + 1 =>
      have : ∀ k, 1 ≤ zsS sz P k := fun k => by
        induction k with
        | zero => exact Nat.le_refl 1
        | succ k ih =>
          show 1 ≤ zsS sz P k + _
          omega
      exact this _
  obtain ⟨e16, e17, e18, e19, e14⟩ := zp2_16 (fa := fa) (zsum sz P) (nI w) n b (nI (zsS sz P s)) (P - s)
  refine ⟨?_, h8, fun j hj => ?_, ?_, ?_, fun j hj => ?_⟩
  · unfold zp1
    rw [va_up_self]
  · rw [e14]
    unfold zsu
    by_cases c : j = P - s
    · rw [if_pos c, c, pk_us]
      exact ⟨rfl, hpos, h24⟩
    · rw [if_neg c, pk_un c]
      exact s3 j (by omega)
  · unfold zp1
    rw [va_up_ne _ _ (by decide), va_up_self, hk, zsum_u1, ← hsum]
  · rw [hk, zsum_u1, ← hsum]
    intro p hp
    have zo : ∀ k, k < zsum sz P → zsz (zp2 fa (zsum sz P) (nI w) n b (nI (zsS sz P s)) (P - s)) k = zsz fa k := fun k hk => by
      unfold zsz
      rw [e19, pk_un (by omega)]
    by_cases c : p = zsum sz P
    · subst c
      have zq : zsz (zp2 fa (zsum sz P) (nI w) n b (nI (zsS sz P s)) (P - s)) (zsum sz P) = zsS sz P s := by
        unfold zsz
        rw [e19, pk_us, nI_clamp (by omega)]
      rw [Nat.zero_add]
      refine ⟨w, hw, by rw [e16, pk_us], by rw [zq, e19, pk_us], by rw [zq]; omega, fun h0 => ?_, fun h1 => ?_, fun h2 => ?_⟩
      · have : s = 0 := by omega
        subst this
        rw [zq]
        rfl
      · have : s = 1 := by omega
        subst this
        obtain ⟨p, rfl⟩ : ∃ p, P = p + 1 := ⟨P - 1, by omega⟩
        have h1 := (s3 p (by omega)).2.1
        have hz : zsum sz (p + 1) = zsum sz p + sz p := rfl
        have l1 := s6 p (by omega)
        refine ⟨by omega, ?_⟩
        rw [zq, Nat.zero_add, zo _ (by omega)]
        have : zsz fa (zsum sz (p + 1) - 1) = sz p := by
          unfold zsz
          rw [l1, nI_clamp (by have := (s3 p (by omega)).2.2; omega)]
        rw [this]
        show 1 + (if 0 < p + 1 then sz (p + 1 - 1 - 0) else 0) = 1 + sz p
        rw [if_pos (by omega)]
        rfl
      · have : s = 2 := by omega
        subst this
        obtain ⟨p, rfl⟩ : ∃ p, P = p + 2 := ⟨P - 2, by omega⟩
        have h1 := (s3 p (by omega)).2.1
        have h2 := (s3 (p + 1) (by omega)).2.1
        have hz : zsum sz (p + 2) = zsum sz p + sz p + sz (p + 1) := rfl
        have hz1 : zsum sz (p + 1) = zsum sz p + sz p := rfl
        have l1 := s6 (p + 1) (by omega)
        have l0 := s6 p (by omega)
        have e1 : zsz fa (zsum sz (p + 2) - 1) = sz (p + 1) := by
          unfold zsz
          rw [l1, nI_clamp (by have := (s3 (p + 1) (by omega)).2.2; omega)]
        have e0 : zsz fa (zsum sz (p + 1) - 1) = sz p := by
          unfold zsz
          rw [l0, nI_clamp (by have := (s3 p (by omega)).2.2; omega)]
        refine ⟨by omega, ?_, ?_⟩
        · rw [Nat.zero_add, zo _ (by omega), e1]
          omega
        · rw [zq, Nat.zero_add, zo _ (by omega), e1, Nat.zero_add, zo _ (by omega), show zsum sz (p + 2) - 1 - sz (p + 1) = zsum sz (p + 1) - 1 by omega, e0]
          show 1 + (if 0 < p + 2 then sz (p + 2 - 1 - 0) else 0) + (if 1 < p + 2 then sz (p + 2 - 1 - 1) else 0) = 1 + sz (p + 1) + sz p
          rw [if_pos (by omega), if_pos (by omega)]
          rfl
    · have := s5.cg (fa' := zp2 fa (zsum sz P) (nI w) n b (nI (zsS sz P s)) (P - s)) (fun p hp => by rw [e16, pk_un (by omega)]) (fun p hp => by rw [e19, pk_un (by omega)])
      exact this p (by omega)
  · rw [e19]
    by_cases c : j = P - s
    · subst c
      rw [zsum_u1, ← hsum, Nat.add_sub_cancel, pk_us]
      unfold zsu
      rw [if_pos rfl]
    · have hj' : j < P - s := by omega
      rw [zsum_u (j + 1) (by omega)]
      have hlt : zsum sz (j + 1) - 1 ≠ zsum sz P := by
        have mono : ∀ k, j + 1 ≤ k → zsum sz (j + 1) ≤ zsum sz k := fun k hk => by
          induction k with
          | zero => omega
          | succ k ih =>
            by_cases ck : j + 1 = k + 1
            · rw [ck]
              exact Nat.le_refl _
            · have := ih (by omega)
              show _ ≤ zsum sz k + sz k
              omega
        have h1 := mono P (by omega)
        have h2 := (s3 j (by omega)).2.1
        have h3 : zsum sz (j + 1) = zsum sz j + sz j := rfl
        omega
      rw [pk_un hlt]
      unfold zsu
      rw [if_neg c]
      exact s6 j (by omega)
end PUT
