set_option maxRecDepth 100000
def zs3 (fa : Nat → Nat → Int32) (k n : Nat) : Bool := fa 16 k == fa 16 n && (fa 17 k == fa 17 n && fa 18 k == fa 18 n)
theorem zsm1_iff (fa : Nat → Nat → Int32) (k n : Nat) : ∀ i : Nat, zsm1 fa k n i = true ↔ ∀ j, j < i → zs3 fa (k - j) (n - j) = true
  | 0 => ⟨fun _ j hj => absurd hj (Nat.not_lt_zero j), fun _ => rfl⟩
  | i + 1 => by
    rw [zsm1_s, Bool.and_eq_true, zsm1_iff fa k n i]
    refine ⟨fun h j hj => ?_, fun h => ⟨fun j hj => h j (by omega), h i (by omega)⟩⟩
    by_cases c : j = i
    · subst c
      exact h.2
    · exact h.1 j (by omega)
theorem zs3_16 {fa : Nat → Nat → Int32} {k n : Nat} (h : zs3 fa k n = true) : fa 16 k = fa 16 n := by
  unfold zs3 at h
  rw [Bool.and_eq_true] at h
  exact beq_iff_eq.mp h.1
/-- of two formulas that agree backwards as far as one goes, the other goes as far -/
theorem zsz_same {fa : Nat → Nat → Int32} {b1 n1 b2 n2 : Nat} (hw1 : zwf fa b1 n1) (hw2 : zwf fa b2 n2) : ∀ (m p q : Nat), p < m → p < n1 → q < n2 → (∀ j, j < zsz fa (b1 + p) → j ≤ q → fa 16 (b1 + p - j) = fa 16 (b2 + q - j)) → zsz fa (b2 + q) = zsz fa (b1 + p)
  | 0, p, q, hm, hp, hq, h => absurd hm (Nat.not_lt_zero p)
  | m + 1, p, q, hm, hp, hq, h => by
    obtain ⟨w, w1, w2, w3, w4, w5, w6, w7⟩ := hw1 p hp
    obtain ⟨v, v1, v2, v3, v4, v5, v6, v7⟩ := hw2 q hq
    have hz := zwf_pos hw1 hp
    have hwv : w = v := by
      have := h 0 (by omega) (Nat.zero_le _)
      rw [Nat.sub_zero, Nat.sub_zero, w2, v2] at this
      exact (nI_eq (by omega) (by omega)).mp this
    subst hwv
    have h3 : zay w = 0 ∨ zay w = 1 ∨ zay w = 2 := by
      unfold zay
      split
      · exact Or.inl rfl
      · split
        · exact Or.inr (Or.inr rfl)
        · exact Or.inr (Or.inl rfl)
    rcases h3 with c | c | c
    · rw [w5 c, v5 c]
    · obtain ⟨y1, y2⟩ := w6 c
      obtain ⟨u1, u2⟩ := v6 c
      have := zsz_same hw1 hw2 m (p - 1) (q - 1) (by omega) (by omega) (by omega) (fun j hj hjq => by
        have := h (j + 1) (by omega) (by omega)
        rw [show b1 + p - (j + 1) = b1 + (p - 1) - j by omega, show b2 + q - (j + 1) = b2 + (q - 1) - j by omega] at this
        exact this)
      omega
    · obtain ⟨y1, y2, y3⟩ := w7 c
      obtain ⟨u1, u2, u3⟩ := v7 c
      have e1 := zsz_same hw1 hw2 m (p - 1) (q - 1) (by omega) (by omega) (by omega) (fun j hj hjq => by
        have := h (j + 1) (by omega) (by omega)
        rw [show b1 + p - (j + 1) = b1 + (p - 1) - j by omega, show b2 + q - (j + 1) = b2 + (q - 1) - j by omega] at this
        exact this)
      rw [e1] at u2 u3
      have e2 := zsz_same hw1 hw2 m (p - 1 - zsz fa (b1 + (p - 1))) (q - 1 - zsz fa (b1 + (p - 1))) (by omega) (by omega) (by omega) (fun j hj hjq => by
        have := h (j + 1 + zsz fa (b1 + (p - 1))) (by omega) (by omega)
        rw [show b1 + p - (j + 1 + zsz fa (b1 + (p - 1))) = b1 + (p - 1 - zsz fa (b1 + (p - 1))) - j by omega, show b2 + q - (j + 1 + zsz fa (b1 + (p - 1))) = b2 + (q - 1 - zsz fa (b1 + (p - 1))) - j by omega] at this
        exact this)
      omega
/-- same, in one: sizes and all of them -/
theorem zsm_iff {fa : Nat → Nat → Int32} {b1 n1 b2 n2 p q : Nat} (hw1 : zwf fa b1 n1) (hw2 : zwf fa b2 n2) (hp : p < n1) (hq : q < n2) : zsm fa (b1 + p) (b2 + q) = true ↔ zsz fa (b2 + q) = zsz fa (b1 + p) ∧ ∀ j, j < zsz fa (b1 + p) → zs3 fa (b1 + p - j) (b2 + q - j) = true := by
  obtain ⟨w, w1, w2, w3, w4, -⟩ := hw1 p hp
  obtain ⟨v, v1, v2, v3, v4, -⟩ := hw2 q hq
  unfold zsm
  rw [Bool.and_eq_true, zsm1_iff, beq_iff_eq]
  refine and_congr_left (fun _ => ⟨fun h => ?_, fun h => ?_⟩)
  · unfold zsz
    rw [h]
  · rw [w3, v3, h]
section SMC
variable {fa : Nat → Nat → Int32} {b1 n1 b2 n2 : Nat}
theorem zsm_root (hw1 : zwf fa b1 n1) (hw2 : zwf fa b2 n2) {p q : Nat} (hp : p < n1) (hq : q < n2) (h : zsm fa (b1 + p) (b2 + q) = true) : zs3 fa (b1 + p) (b2 + q) = true := by
  have := ((zsm_iff hw1 hw2 hp hq).mp h).2 0 (zwf_pos hw1 hp)
  exact this
theorem zsm_0 (hw1 : zwf fa b1 n1) (hw2 : zwf fa b2 n2) {p q : Nat} (hp : p < n1) (hq : q < n2) (h1 : zsz fa (b1 + p) = 1) (h2 : zsz fa (b2 + q) = 1) : zsm fa (b1 + p) (b2 + q) = zs3 fa (b1 + p) (b2 + q) := by
  rw [Bool.eq_iff_iff, zsm_iff hw1 hw2 hp hq, h1, h2]
  refine ⟨fun h => h.2 0 (by omega), fun h => ⟨rfl, fun j hj => ?_⟩⟩
  rw [show j = 0 by omega]
  exact h
theorem zsm_1 (hw1 : zwf fa b1 n1) (hw2 : zwf fa b2 n2) {p q : Nat} (hp : p < n1) (hq : q < n2) (y1 : 1 ≤ p) (u1 : 1 ≤ q) (h1 : zsz fa (b1 + p) = 1 + zsz fa (b1 + (p - 1))) (h2 : zsz fa (b2 + q) = 1 + zsz fa (b2 + (q - 1))) : zsm fa (b1 + p) (b2 + q) = (zs3 fa (b1 + p) (b2 + q) && zsm fa (b1 + (p - 1)) (b2 + (q - 1))) := by
  rw [Bool.eq_iff_iff, Bool.and_eq_true, zsm_iff hw1 hw2 hp hq, zsm_iff hw1 hw2 (by omega) (by omega), h1, h2]
  refine ⟨fun h => ⟨h.2 0 (by omega), by omega, fun j hj => ?_⟩, fun h => ⟨by omega, fun j hj => ?_⟩⟩
  · have := h.2 (j + 1) (by omega)
    rw [show b1 + p - (j + 1) = b1 + (p - 1) - j by omega, show b2 + q - (j + 1) = b2 + (q - 1) - j by omega] at this
    exact this
  · by_cases c : j = 0
    · subst c
      exact h.1
    · have := h.2.2 (j - 1) (by omega)
      rw [show b1 + (p - 1) - (j - 1) = b1 + p - j by omega, show b2 + (q - 1) - (j - 1) = b2 + q - j by omega] at this
      exact this
theorem zsm_2 (hw1 : zwf fa b1 n1) (hw2 : zwf fa b2 n2) {p q : Nat} (hp : p < n1) (hq : q < n2) (y1 : 1 ≤ p) (u1 : 1 ≤ q) (y2 : zsz fa (b1 + (p - 1)) ≤ p - 1) (u2 : zsz fa (b2 + (q - 1)) ≤ q - 1) (fp : zf1 fa b1 p = p - 1 - zsz fa (b1 + (p - 1))) (fq : zf1 fa b2 q = q - 1 - zsz fa (b2 + (q - 1))) (h1 : zsz fa (b1 + p) = 1 + zsz fa (b1 + (p - 1)) + zsz fa (b1 + zf1 fa b1 p)) (h2 : zsz fa (b2 + q) = 1 + zsz fa (b2 + (q - 1)) + zsz fa (b2 + zf1 fa b2 q)) (w4 : zsz fa (b1 + p) ≤ p + 1) (v4 : zsz fa (b2 + q) ≤ q + 1) : zsm fa (b1 + p) (b2 + q) = (zs3 fa (b1 + p) (b2 + q) && (zsm fa (b1 + zf1 fa b1 p) (b2 + zf1 fa b2 q) && zsm fa (b1 + (p - 1)) (b2 + (q - 1)))) := by
  rw [Bool.eq_iff_iff, Bool.and_eq_true, Bool.and_eq_true, zsm_iff hw1 hw2 hp hq, zsm_iff hw1 hw2 (by omega) (by omega), zsm_iff hw1 hw2 (by omega) (by omega)]
  refine ⟨fun h => ?_, fun h => ⟨by omega, fun j hj => ?_⟩⟩
  · have hA : ∀ j, j < zsz fa (b1 + (p - 1)) → zs3 fa (b1 + (p - 1) - j) (b2 + (q - 1) - j) = true := fun j hj => by
      have := h.2 (j + 1) (by omega)
      rw [show b1 + p - (j + 1) = b1 + (p - 1) - j by omega, show b2 + q - (j + 1) = b2 + (q - 1) - j by omega] at this
      exact this
    have e1 := zsz_same hw1 hw2 p (p - 1) (q - 1) (by omega) (by omega) (by omega) (fun j hj _ => zs3_16 (hA j hj))
    refine ⟨h.2 0 (by omega), ⟨by omega, fun j hj => ?_⟩, e1, hA⟩
    have := h.2 (j + 1 + zsz fa (b1 + (p - 1))) (by omega)
    rw [show b1 + p - (j + 1 + zsz fa (b1 + (p - 1))) = b1 + zf1 fa b1 p - j by omega, show b2 + q - (j + 1 + zsz fa (b1 + (p - 1))) = b2 + zf1 fa b2 q - j by omega] at this
    exact this
  · obtain ⟨a0, ⟨a1, a2⟩, a3, a4⟩ := h
    by_cases c : j = 0
    · subst c
      exact a0
    · by_cases c2 : j ≤ zsz fa (b1 + (p - 1))
      · have := a4 (j - 1) (by omega)
        rw [show b1 + (p - 1) - (j - 1) = b1 + p - j by omega, show b2 + (q - 1) - (j - 1) = b2 + q - j by omega] at this
        exact this
      · have := a2 (j - 1 - zsz fa (b1 + (p - 1))) (by omega)
        rw [show b1 + zf1 fa b1 p - (j - 1 - zsz fa (b1 + (p - 1))) = b1 + p - j by omega, show b2 + zf1 fa b2 q - (j - 1 - zsz fa (b1 + (p - 1))) = b2 + q - j by omega] at this
        exact this
end SMC
section SMW
variable {X : zX} {g : zG} {b1 n1 b2 n2 : Nat} {fo1 fo2 : Nat → Nat} {fa : Nat → Nat → Int32}
/-- isSame: as the model's rows are -/
theorem cf_isSame (hok : zOk X) (hw1 : zwf fa b1 n1) (hw2 : zwf fa b2 n2) (hF1 : zFo X fa b1 n1 fo1 g) (hF2 : zFo X fa b2 n2 fo2 g) : ∀ (m p q : Nat), p < m → p < n1 → q < n2 → ∀ (D : Nat) (K : Option Value → zG → Prop) (KX : String → zG → Prop), p + 2 ≤ D → K (some (.int (zbI (zsm fa (b1 + p) (b2 + q))))) g → zCal X D yX7_isSame wX7_isSame [.ref (fo1 p), .ref (fo2 q)] g K KX
  | 0, p, q, hm, hp, hq => absurd hm (Nat.not_lt_zero p)
  | m + 1, p, q, hm, hp, hq => by
    intro D K KX hD hK
    obtain ⟨d, rfl⟩ : ∃ d, D = d + 1 := ⟨D - 1, by omega⟩
    obtain ⟨s, hs⟩ := hF1 p hp
    obtain ⟨s2, hs2⟩ := hF2 q hq
    obtain ⟨w, w1, w2, -⟩ := hw1 p hp
    obtain ⟨v, v1, v2, -⟩ := hw2 q hq
    have e1 : (fa 16 (b1 + p)).toNatClampNeg = w := by rw [w2, nI_clamp (by omega)]
    have e2 : (fa 16 (b2 + q)).toNatClampNeg = v := by rw [v2, nI_clamp (by omega)]
    have srt1 : (zff X fa b1 fo1 p s)[0]? = some (.ref (zE X w)) := by unfold zff; rw [e1]; rfl
    have srt2 : (zff X fa b2 fo2 q s2)[0]? = some (.ref (zE X v)) := by unfold zff; rw [e2]; rfl
    refine mX7_isSame (d := d) hok _ _ (fun E C hQ => ?_)
    have no : ¬ zs3 fa (b1 + p) (b2 + q) = true → GW X E 3 g 37 [(0, .ref (fo1 p)), (1, .ref (fo2 q))] [] := fun h => by
      have : zsm fa (b1 + p) (b2 + q) = false := by
        cases hb : zsm fa (b1 + p) (b2 + q) with
        | false => rfl
        | true => exact absurd (zsm_root hw1 hw2 hp hq hb) h
      rw [this] at hK
      exact bX7_isSame_37 (d := d) C hQ g _ _ (bX7_isSame_38 (d := d) C hQ g _ _ _ ⟨fun _ => hK, fun z => absurd rfl z⟩)
    refine ⟨7, _, _, rfl, hs, srt1, 7, _, _, rfl, hs2, srt2, fun c => no (fun h => ?_), fun c => ⟨7, _, _, rfl, hs, rfl, 7, _, _, rfl, hs2, rfl, fun c2 => no (fun h => ?_), fun c2 => ⟨7, _, _, rfl, hs, rfl, 7, _, _, rfl, hs2, rfl, fun c3 => no (fun h => ?_), fun c3 => ?_⟩⟩⟩
    · have := zs3_16 h
      rw [w2, v2] at this
      rw [(nI_eq (by omega) (by omega)).mp this] at c
      exact c rfl
    · unfold zs3 at h
      simp only [Bool.and_eq_true, beq_iff_eq] at h
      exact c2 h.2.1
    · unfold zs3 at h
      simp only [Bool.and_eq_true, beq_iff_eq] at h
      exact c3 h.2.2
    · have hwv : w = v := zE_inj hok w1 v1 c
      subst hwv
      have h3 : zs3 fa (b1 + p) (b2 + q) = true := by
        unfold zs3
        rw [w2, v2, c2, c3]
        simp
      rcases zfp_c hw1 hp fo1 with ⟨h1, h2, hz, hy⟩ | ⟨h1, h2, hy1, hz, hz2, hy⟩ | ⟨h1, h2, hy1, hy2, hy3, hy4, hz, hz2, hy⟩ <;> rcases zfp_c hw2 hq fo2 with ⟨k1, k2, kz, ky⟩ | ⟨k1, k2, ky1, kz, kz2, ky⟩ | ⟨k1, k2, ky1, ky2, ky3, ky4, kz, kz2, ky⟩ <;> rw [e1] at hy <;> rw [e2, hy] at ky <;> first | exact absurd ky (by decide) | skip
      · rw [zsm_0 hw1 hw2 hp hq hz kz, h3] at hK
        refine bX7_isSame_38 (d := d) C hQ g _ _ _ ⟨fun z => absurd z (by decide), fun _ => ⟨7, _, none, rfl, hs, by unfold zff; rw [h1]; rfl, fun _ => bX7_isSame_64 (d := d) C hQ g _ _ ⟨7, _, none, rfl, hs, by unfold zff; rw [h2]; rfl, fun _ => hK, fun a z => by cases z⟩, fun a z => by cases z⟩⟩
      · rw [zsm_1 hw1 hw2 hp hq hy1 ky1 hz kz, h3, Bool.true_and] at hK
        refine bX7_isSame_38 (d := d) C hQ g _ _ _ ⟨fun z => absurd z (by decide), fun _ => ⟨7, _, some (fo1 (p - 1)), rfl, hs, by unfold zff; rw [h1]; rfl, fun z => (by cases z), fun a z => ⟨7, _, some (fo1 (p - 1)), rfl, hs, by unfold zff; rw [h1]; rfl, 7, _, some (fo2 (q - 1)), rfl, hs2, by unfold zff; rw [k1]; rfl, _, rfl, ⟨7, _, (hF1 (p - 1) (by omega)).choose_spec, rfl⟩, ?_⟩⟩⟩
        refine cf_isSame hok hw1 hw2 hF1 hF2 m (p - 1) (q - 1) (by omega) (by omega) (by omega) _ _ _ (by omega) ⟨_, rfl, zbI_b _, fun z => ?_, fun z => ?_⟩
        · rw [zbI_0.mp z] at hK
          exact hK
        · have hb : zsm fa (b1 + (p - 1)) (b2 + (q - 1)) = true := by
            cases hb : zsm fa (b1 + (p - 1)) (b2 + (q - 1)) with
            | true => rfl
            | false => rw [hb] at z; exact absurd rfl z
          rw [hb] at hK
          exact bX7_isSame_64 (d := d) C hQ g _ _ ⟨7, _, none, rfl, hs, by unfold zff; rw [h2]; rfl, fun _ => hK, fun a z => by cases z⟩
      · rw [zsm_2 hw1 hw2 hp hq hy1 ky1 hy4 ky4 hy3 ky3 hz kz hz2 kz2, h3, Bool.true_and] at hK
        refine bX7_isSame_38 (d := d) C hQ g _ _ _ ⟨fun z => absurd z (by decide), fun _ => ⟨7, _, some (fo1 (zf1 fa b1 p)), rfl, hs, by unfold zff; rw [h1]; rfl, fun z => (by cases z), fun a z => ⟨7, _, some (fo1 (zf1 fa b1 p)), rfl, hs, by unfold zff; rw [h1]; rfl, 7, _, some (fo2 (zf1 fa b2 q)), rfl, hs2, by unfold zff; rw [k1]; rfl, _, rfl, ⟨7, _, (hF1 (zf1 fa b1 p) (by omega)).choose_spec, rfl⟩, ?_⟩⟩⟩
        refine cf_isSame hok hw1 hw2 hF1 hF2 m (zf1 fa b1 p) (zf1 fa b2 q) (by omega) (by omega) (by omega) _ _ _ (by omega) ⟨_, rfl, zbI_b _, fun z => ?_, fun z => ?_⟩
        · rw [zbI_0.mp z, Bool.false_and] at hK
          exact hK
        · have hb : zsm fa (b1 + zf1 fa b1 p) (b2 + zf1 fa b2 q) = true := by
            cases hb : zsm fa (b1 + zf1 fa b1 p) (b2 + zf1 fa b2 q) with
            | true => rfl
            | false => rw [hb] at z; exact absurd rfl z
          rw [hb, Bool.true_and] at hK
          refine bX7_isSame_64 (d := d) C hQ g _ _ ⟨7, _, some (fo1 (p - 1)), rfl, hs, by unfold zff; rw [h2]; rfl, fun z => (by cases z), fun a z => ⟨7, _, some (fo1 (p - 1)), rfl, hs, by unfold zff; rw [h2]; rfl, 7, _, some (fo2 (q - 1)), rfl, hs2, by unfold zff; rw [k2]; rfl, _, rfl, ⟨7, _, (hF1 (p - 1) (by omega)).choose_spec, rfl⟩, ?_⟩⟩
          refine cf_isSame hok hw1 hw2 hF1 hF2 m (p - 1) (q - 1) (by omega) (by omega) (by omega) _ _ _ (by omega) ⟨_, rfl, zbI_b _, fun z => ?_, fun z => ?_⟩
          · rw [zbI_0.mp z] at hK
            exact hK
          · have hb : zsm fa (b1 + (p - 1)) (b2 + (q - 1)) = true := by
              cases hb : zsm fa (b1 + (p - 1)) (b2 + (q - 1)) with
              | true => rfl
              | false => rw [hb] at z; exact absurd rfl z
            rw [hb] at hK
            exact hK
end SMW
