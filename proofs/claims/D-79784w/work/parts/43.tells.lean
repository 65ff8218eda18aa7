set_option maxRecDepth 100000
/-- how many parts are made into one of this sort -/
def zay (w : Nat) : Nat := if w ≤ 1 then 0 else if w = 3 ∨ w = 4 ∨ w = 6 ∨ w = 9 then 2 else 1
def zsz (fa : Nat → Nat → Int32) (q : Nat) : Nat := (fa 19 q).toNatClampNeg
/-- the formula's parts stand from base on, n of them, each behind those it is made of -/
def zwf (fa : Nat → Nat → Int32) (base n : Nat) : Prop := ∀ p : Nat, p < n → ∃ w : Nat, w < 12 ∧ fa 16 (base + p) = nI w ∧ fa 19 (base + p) = nI (zsz fa (base + p)) ∧ zsz fa (base + p) ≤ p + 1 ∧ (zay w = 0 → zsz fa (base + p) = 1) ∧ (zay w = 1 → 1 ≤ p ∧ zsz fa (base + p) = 1 + zsz fa (base + (p - 1))) ∧ (zay w = 2 → 1 ≤ p ∧ zsz fa (base + (p - 1)) ≤ p - 1 ∧ zsz fa (base + p) = 1 + zsz fa (base + (p - 1)) + zsz fa (base + (p - 1 - zsz fa (base + (p - 1)))))
section TLS
variable {X : zX} {d : Nat} {g : zG} {K : Option Value → zG → Prop} {KX : String → zG → Prop} {m : Nat} {fi : Nat → Int32} {ad : Nat → Nat} {fa : Nat → Nat → Int32} {R : List Nat}
theorem mp_tellsAt_b (hok : zOk X) (hM : zMd g m fi ad fa) (hR : zRw fi fa R) {base p n e : Nat} {x5 t0 : Int32} (hb : base + 24 ≤ 336) (hn : n ≤ 24) (hp : p < n) (he : e < R.length) (hw : zwf fa base n) (h5 : 1 ≤ p → x5 = nI (p - 1)) (h0 : (∃ w, fa 16 (base + p) = nI w ∧ zay w = 2) → t0 = nI (zf1 fa base p)) {E : zM} (C : zC X (d + 2) E RX3 cX3_tellsAt 8 (some .int) "tellsAt") (hQ : zQ X E K KX) (hK : K (some (.int (zst fi fa base R (ztb fa) p e))) g) : GW X E 8 g 31 [(0, .ref m), (3, .int (nI e)), (4, .int (nI (base + p))), (5, .int x5)] [.int t0] := by
  obtain ⟨w, hw1, hw2, hw3, hw4, hw5, hw6, hw7⟩ := hw p hp
  have h80 := hR.2.1
  have hpl : ∀ j, 16 ≤ j → j ≤ 19 → vp_in (nI (base + p)) (zln j) := by
    intro j h1 h2
    have : j = 16 ∨ j = 17 ∨ j = 18 ∨ j = 19 := by omega
    rcases this with rfl | rfl | rfl | rfl <;> exact (zin 336 rfl (by omega) (by omega))
  have hcl : (nI (base + p)).toNatClampNeg = base + p := nI_clamp (by omega)
  have hev := (hR.2.2 e he)
  have hf1 : zf1 fa base p ≤ p - 1 := by
    unfold zf1
    omega
  have e9 : ∀ j : Nat, j < 12 → nI w = nI j → w = j := fun j hj h => (nI_eq (by omega) (by omega)).mp h
  have c5 : zay w ≠ 0 → x5 = nI (p - 1) := by
    intro h
    have : zay w = 0 ∨ zay w = 1 ∨ zay w = 2 := by
      unfold zay
      split
      · exact Or.inl rfl
      · split
        · exact Or.inr (Or.inr rfl)
        · exact Or.inr (Or.inl rfl)
    rcases this with z | z | z
    · exact absurd z h
    · exact h5 (hw6 z).1
    · exact h5 (hw7 z).1
  have c0 : zay w = 2 → t0 = nI (zf1 fa base p) := fun h => h0 ⟨w, hw2, h⟩
  refine bX3_tellsAt_31 (d := d + 1) C hQ g m _ _ _ _ ⟨_, _, hM.1, rfl, _, _, hM.2 28 (by decide), (zin 80 rfl (by omega) (by omega)), fun v hv => ?_⟩
  rw [nI_clamp (by omega), hev.1] at hv
  subst hv
  refine ⟨_, _, hM.1, rfl, _, _, hM.2 16 (by decide), hpl 16 (by omega) (by omega), fun v hv => ?_⟩
  rw [hcl, hw2] at hv
  subst hv
  unfold zst at hK
  rw [hw2] at hK
  refine ⟨fun c => ?_, fun c => ?_, fun c => ?_, fun c => ?_, fun c => ?_, fun c => ?_, fun c => ?_, fun c => ?_, fun c => ?_, fun c => ?_, fun c => ?_, fun c => ?_⟩
  · rw [c] at hK
    refine ⟨_, _, hM.1, rfl, _, _, hM.2 8 (by decide), (zin 80 rfl (by omega) (by omega)), fun v hv => ⟨_, _, hM.1, rfl, _, _, hM.2 17 (by decide), hpl 17 (by omega) (by omega), fun v2 hv2 => ?_⟩⟩
    rw [nI_clamp (by omega)] at hv
    rw [hcl] at hv2
    subst hv hv2
    refine ⟨fun z => ?_, fun z => ?_⟩
    · simpa [z] using hK
    · simpa [z] using hK
  · rw [c] at hK
    refine ⟨_, _, hM.1, rfl, _, _, hM.2 10 (by decide), (zin 80 rfl (by omega) (by omega)), fun v hv => ⟨_, _, hM.1, rfl, _, _, hM.2 17 (by decide), hpl 17 (by omega) (by omega), fun v2 hv2 => ⟨_, _, hM.1, rfl, _, _, hM.2 18 (by decide), hpl 18 (by omega) (by omega), fun v3 hv3 => ?_⟩⟩⟩
    rw [nI_clamp (by omega)] at hv
    rw [hcl] at hv2 hv3
    subst hv hv2 hv3
    refine ⟨hM.is, mp_isValue hok (fun z => ⟨1, rfl, Or.inr rfl, fun y => absurd y (by decide), fun _ => ?_⟩) (fun z => ⟨0, rfl, Or.inl rfl, fun _ => ?_, fun y => absurd rfl y⟩)⟩
    · simpa [z] using hK
    · simpa [z] using hK
  · have hj := e9 2 (by omega) c
    rw [c] at hK
    rw [c5 (by subst hj; decide)]
    exact ⟨hM.is, mp_at hok hM (by omega) (by omega) ⟨_, rfl, mp_not hok ⟨_, rfl, hK⟩⟩⟩
  · have hj := e9 3 (by omega) c
    rw [c] at hK
    rw [c5 (by subst hj; decide), c0 (by subst hj; decide)]
    exact ⟨hM.is, mp_at hok hM (by omega) (by omega) ⟨_, rfl, hM.is, mp_at hok hM (by omega) (by omega) ⟨_, rfl, mp_and hok ⟨_, rfl, hK⟩⟩⟩⟩
  · have hj := e9 4 (by omega) c
    rw [c] at hK
    rw [c5 (by subst hj; decide), c0 (by subst hj; decide)]
    exact ⟨hM.is, mp_at hok hM (by omega) (by omega) ⟨_, rfl, hM.is, mp_at hok hM (by omega) (by omega) ⟨_, rfl, mp_or hok ⟨_, rfl, hK⟩⟩⟩⟩
  · have hj := e9 5 (by omega) c
    rw [c] at hK
    rw [c5 (by subst hj; decide)]
    refine ⟨fun z => ?_, fun z => ?_⟩
    · have : e = 0 := by
        rw [← nI_0] at z
        have := (nI_leI (by omega) (by omega)).mp z
        omega
      subst this
      exact hK
    · have : e ≠ 0 := fun y => z (by rw [y, nI_0]; decide)
      obtain ⟨e', rfl⟩ : ∃ e', e = e' + 1 := ⟨e - 1, by omega⟩
      rw [nI_pred]
      refine ⟨hM.is, mp_at hok hM (by omega) (by omega) ⟨_, rfl, ?_⟩⟩
      simpa using hK
  · have hj := e9 6 (by omega) c
    rw [c] at hK
    rw [c5 (by subst hj; decide), c0 (by subst hj; decide)]
    refine ⟨_, _, hM.1, rfl, _, _, hM.2 18 (by decide), hpl 18 (by omega) (by omega), fun v hv => ?_⟩
    rw [hcl] at hv
    subst hv
    exact ⟨hM.is, mp_sinceAt hok hM hR (by omega) (by omega) he ⟨_, rfl, hK⟩⟩
  · have hj := e9 7 (by omega) c
    rw [c] at hK
    rw [c5 (by subst hj; decide)]
    refine ⟨_, _, hM.1, rfl, _, _, hM.2 18 (by decide), hpl 18 (by omega) (by omega), fun v hv => ?_⟩
    rw [hcl] at hv
    subst hv
    exact ⟨hM.is, mp_onceAt hok hM hR (by omega) he ⟨_, rfl, hK⟩⟩
  · have hj := e9 8 (by omega) c
    rw [c] at hK
    rw [c5 (by subst hj; decide)]
    refine ⟨_, _, hM.1, rfl, fun z => ⟨_, _, hM.1, rfl, fun y => ?_, fun y => ?_⟩, fun z => ?_⟩
    · rw [hR.1, ← nI_succ] at z
      have := (nI_leI (by omega) (by omega)).mp z
      simpa [show ¬ e + 1 < R.length by omega, y] using hK
    · rw [hR.1, ← nI_succ] at z
      have := (nI_leI (by omega) (by omega)).mp z
      simpa [show ¬ e + 1 < R.length by omega, y] using hK
    · rw [hR.1, ← nI_succ] at z
      have z2 : e + 1 < R.length := Nat.lt_of_not_le (fun y => z ((nI_leI (by omega) (by omega)).mpr y))
      rw [← nI_succ]
      refine ⟨hM.is, mp_at hok hM (by omega) (by omega) ⟨_, rfl, ?_⟩⟩
      simpa [z2] using hK
  · have hj := e9 9 (by omega) c
    rw [c] at hK
    rw [c5 (by subst hj; decide), c0 (by subst hj; decide)]
    refine ⟨_, _, hM.1, rfl, _, _, hM.2 18 (by decide), hpl 18 (by omega) (by omega), fun v hv => ?_⟩
    rw [hcl] at hv
    subst hv
    exact ⟨hM.is, mp_untilAt hok hM hR (by omega) (by omega) he ⟨_, rfl, hK⟩⟩
  · have hj := e9 10 (by omega) c
    rw [c] at hK
    rw [c5 (by subst hj; decide)]
    refine ⟨_, _, hM.1, rfl, _, _, hM.2 18 (by decide), hpl 18 (by omega) (by omega), fun v hv => ?_⟩
    rw [hcl] at hv
    subst hv
    exact ⟨hM.is, mp_soonAt hok hM hR (by omega) he ⟨_, rfl, hK⟩⟩
  · rw [nI_toInt (by omega)] at c
    have hj : w = 11 := by omega
    subst hj
    rw [c5 (by decide)]
    refine ⟨_, _, hM.1, rfl, _, _, hM.2 17 (by decide), hpl 17 (by omega) (by omega), fun v hv => ⟨_, _, hM.1, rfl, _, _, hM.2 18 (by decide), hpl 18 (by omega) (by omega), fun v2 hv2 => ?_⟩⟩
    rw [hcl] at hv hv2
    subst hv hv2
    exact ⟨hM.is, mp_manyAt hok hM hR (by omega) he ⟨_, rfl, hK⟩⟩
theorem mp_tellsAt (hok : zOk X) (hM : zMd g m fi ad fa) (hR : zRw fi fa R) {base p n e : Nat} (hb : base + 24 ≤ 336) (hn : n ≤ 24) (hp : p < n) (he : e < R.length) (hw : zwf fa base n) (hK : K (some (.int (zst fi fa base R (ztb fa) p e))) g) : zCal X (d + 2) yX3_tellsAt wX3_tellsAt [.ref m, .int (nI base), .int (nI p), .int (nI e)] g K KX := by
  refine mX3_tellsAt (d := d + 1) hok m _ _ _ (fun E C hQ => ?_)
  rw [nI_add]
  by_cases h0 : p = 0
  · subst h0
    refine ⟨fun c => absurd c (by decide), fun _ => mp_tellsAt_b hok hM hR hb hn hp he hw (fun z => absurd z (by decide)) (fun z => ?_) C hQ hK⟩
    obtain ⟨w, z1, z2⟩ := z
    obtain ⟨w', hw1, hw2, -, -, -, -, hw7⟩ := hw 0 hp
    rw [z1] at hw2
    have : w = w' := by
      have hz : w < 12 := by
        unfold zay at z2
        split at z2
        · exact absurd z2 (by decide)
        · split at z2
          · omega
          · exact absurd z2 (by decide)
      exact (nI_eq (by omega) (by omega)).mp hw2
    subst this
    have := (hw7 z2).1
    omega
  · obtain ⟨q, rfl⟩ : ∃ q, p = q + 1 := ⟨p - 1, by omega⟩
    rw [nI_pred, nI_add]
    refine ⟨fun _ => ⟨_, _, hM.1, rfl, _, _, hM.2 19 (by decide), (zin 336 rfl (by omega) (by omega)), fun v hv => ?_⟩, fun c => absurd (nI_pos' (by omega)) c⟩
    rw [nI_clamp (by omega)] at hv
    subst hv
    refine mp_tellsAt_b hok hM hR hb hn hp he hw (fun _ => rfl) (fun z => ?_) C hQ hK
    obtain ⟨w, z1, z2⟩ := z
    obtain ⟨w', hw1, hw2, -, -, -, -, hw7⟩ := hw (q + 1) hp
    have hww : w = w' := by
      have hz : w < 12 := by
        unfold zay at z2
        split at z2
        · exact absurd z2 (by decide)
        · split at z2
          · omega
          · exact absurd z2 (by decide)
      rw [z1] at hw2
      exact (nI_eq (by omega) (by omega)).mp hw2
    subst hww
    obtain ⟨-, y2, -⟩ := hw7 z2
    obtain ⟨w2, -, -, u3, -⟩ := hw q (by omega)
    rw [Nat.add_sub_cancel] at y2
    rw [u3, pk_sub y2]
    rfl
end TLS
