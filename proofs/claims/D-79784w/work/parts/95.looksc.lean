set_option maxRecDepth 100000
/-- formulas stand, whatever their places are -/
def zFo (X : zX) (fa : Nat → Nat → Int32) (base n : Nat) (fo : Nat → Nat) (g : zG) : Prop := ∀ q : Nat, q < n → ∃ s : Int32, zGo g 7 (fo q) = some (zff X fa base fo q s)
/-- bounds are 0 to 1000, or none -/
def zFb (fa : Nat → Nat → Int32) (base n : Nat) : Prop := ∀ q : Nat, q < n → ¬ fa 16 (base + q) = 1 → fa 18 (base + q) = -1 ∨ ∃ k : Nat, k ≤ 1000 ∧ fa 18 (base + q) = nI k
/-- how far a part looks is in range -/
def zlr (m : Nat) (v : Int32) : Prop := v = -1 ∨ ∃ k : Nat, k ≤ m ∧ v = nI k
theorem zlr.mono {m m' : Nat} {v : Int32} (h : zlr m v) (hm : m ≤ m') : zlr m' v := h.imp_right (fun ⟨k, h1, h2⟩ => ⟨k, by omega, h2⟩)
theorem zlr_gr {m : Nat} {a b : Int32} (ha : zlr m a) (hb : zlr m b) (hm : m ≤ 100000) : zlr m (zgr a b) ∧ zgr a b = zgr b a := by
  unfold zgr
  rcases ha with rfl | ⟨k, hk, rfl⟩
  · exact ⟨Or.inl (if_pos (Or.inl rfl)), by rw [if_pos (Or.inl rfl), if_pos (Or.inr rfl)]⟩
  · rcases hb with rfl | ⟨j, hj, rfl⟩
    · exact ⟨Or.inl (if_pos (Or.inr rfl)), by rw [if_pos (Or.inr rfl), if_pos (Or.inl rfl)]⟩
    · have n1 : ¬ nI k = -1 := fun z => absurd (show (nI k : Int32) < 0 by rw [z]; decide) (nI_pos (by omega))
      have n2 : ¬ nI j = -1 := fun z => absurd (show (nI j : Int32) < 0 by rw [z]; decide) (nI_pos (by omega))
      have m1 : ¬ (nI k = -1 ∨ nI j = -1) := fun z => z.elim n1 n2
      have m2 : ¬ (nI j = -1 ∨ nI k = -1) := fun z => z.elim n2 n1
      rw [if_neg m1, if_neg m2]
      by_cases c : k ≤ j
      · rw [if_pos (nI_le c (by omega))]
        refine ⟨Or.inr ⟨j, hj, rfl⟩, ?_⟩
        by_cases c2 : j ≤ k
        · rw [if_pos (nI_le c2 (by omega)), show j = k by omega]
        · rw [if_neg (nI_ge (by omega) (by omega))]
      · rw [if_neg (nI_ge (by omega) (by omega)), if_pos (nI_le (by omega) (by omega))]
        exact ⟨Or.inr ⟨k, hk, rfl⟩, rfl⟩
theorem zlr_tt {m : Nat} {a b : Int32} (ha : zlr 1000 a) (hb : zlr m b) : zlr (m + 1000) (ztt a b) := by
  unfold ztt
  rcases ha with rfl | ⟨k, hk, rfl⟩
  · exact Or.inl (if_pos (Or.inl rfl))
  · rcases hb with rfl | ⟨j, hj, rfl⟩
    · exact Or.inl (if_pos (Or.inr rfl))
    · split
      · exact Or.inl rfl
      · exact Or.inr ⟨k + j, by omega, nI_add _ _⟩
theorem zlW_r {m : Nat} {w two its : Int32} {back : Bool} (h2 : ¬ w = 1 → zlr 1000 two) (hi : zlr m its) : zlr (m + 1000) (zlW w two its back) := by
  have h0 : zlr (m + 1000) its := hi.mono (by omega)
  unfold zlW
  by_cases c1 : w = 1
  · rw [c1, if_neg (by decide), if_neg (by decide), if_neg (by decide), if_neg (by decide)]
    exact h0
  · have ht := zlr_tt (h2 c1) hi
    repeat' split
    all_goals first | exact h0 | exact ht | exact Or.inl rfl
theorem zlV_r {fa : Nat → Nat → Int32} {base n : Nat} (hw : zwf fa base n) (hb : zFb fa base n) (hn : n ≤ 24) (back : Bool) : ∀ (m p : Nat), p < m → p < n → zlr (1000 * (p + 1)) (zlV fa base back p)
  | 0, p, hm, hp => absurd hm (Nat.not_lt_zero p)
  | m + 1, p, hm, hp => by
    rw [zlV_st]
    obtain ⟨w, w1, w2, w3, w4, w5, w6, w7⟩ := hw p hp
    have hT : ∀ q, q < p → zlr (1000 * p) (zlT fa base back p q) := fun q hq => by
      rw [zlT_V _ _ _ _ _ hq]
      exact (zlV_r hw hb hn back m q (by omega) (by omega)).mono (by omega)
    refine (zlW_r (m := 1000 * p) (fun h => hb p hp h) ?_).mono (by omega)
    rw [zw_ay w1 w2]
    have h00 : ∀ k, zlr k 0 := fun k => Or.inr ⟨0, by omega, nI_0.symm⟩
    split
    · exact h00 _
    · split
      · rename_i _ c
        obtain ⟨y1, y2, y3⟩ := w7 c
        exact (zlr_gr (zlr_gr (h00 _) (hT (p - 1) (by omega)) (by omega)).1 (hT (zf1 fa base p) (by unfold zf1; omega)) (by omega)).1
      · rename_i c0 c
        have hay : zay w = 1 := by
          have h3 : zay w = 0 ∨ zay w = 1 ∨ zay w = 2 := by
            unfold zay
            split
            · exact Or.inl rfl
            · split
              · exact Or.inr (Or.inr rfl)
              · exact Or.inr (Or.inl rfl)
          omega
        obtain ⟨y1, y2⟩ := w6 hay
        exact (zlr_gr (h00 _) (hT (p - 1) (by omega)) (by omega)).1
/-- what the class reckons at last -/
def zlQ (bs fr : Bool) (two most : Int32) : Int32 := if bs = true ∨ most = -1 ∨ (fr = true ∧ two = -1) then -1 else most + (if fr = true then two else 0)
theorem zlQ_W {w : Nat} (hw : w < 12) (two most : Int32) (back : Bool) : zlQ (decide (w = if back = true then 5 else 8)) (if back = true then decide (w = 6 ∨ w = 7 ∨ w = 11) else decide (w = 9 ∨ w = 10)) two most = zlW (nI w) two most back := by
  have f : ∀ m : Int32, (if m = -1 then (-1 : Int32) else m) = m := fun m => by
    split
    · rename_i h
      exact h.symm
    · rfl
  have : w = 0 ∨ w = 1 ∨ w = 2 ∨ w = 3 ∨ w = 4 ∨ w = 5 ∨ w = 6 ∨ w = 7 ∨ w = 8 ∨ w = 9 ∨ w = 10 ∨ w = 11 := by omega
  unfold zlQ zlW ztt nI
  rcases this with rfl | rfl | rfl | rfl | rfl | rfl | rfl | rfl | rfl | rfl | rfl | rfl <;> cases back <;> simp [f] <;> (try (split <;> split <;> simp_all [Int32.add_comm]))
section LKC
variable {X : zX} {d : Nat} {g : zG} {K : Option Value → zG → Prop} {KX : String → zG → Prop} {base n : Nat} {fo : Nat → Nat} {fa : Nat → Nat → Int32}
theorem zE_iff (hok : zOk X) {i j : Nat} (hi : i < 12) (hj : j < 12) : zE X i = zE X j ↔ i = j := ⟨zE_inj hok hi hj, fun h => by rw [h]⟩
theorem cf_looks_163 (hok : zOk X) {p : Nat} {s : Int32} (hs : zGo g 7 (fo p) = some (zff X fa base fo p s)) {E : zM} (C : zC X (d + 1) E RX7 cX7_looks 9 (some .int) "looks") (hQ : zQ X E K KX) {bs fr : Bool} {most : Int32} (hK : K (some (.int (zlQ bs fr (fa 18 (base + p)) most))) g) : GW X E 9 g 163 [(0, .ref (fo p)), (4, .int most), (5, .int (zbI bs))] [.int (zbI fr)] := by
  unfold zlQ at hK
  refine bX7_looks_163 (d := d) C hQ g _ _ _ _ ⟨fun c1 => ?_, fun c1 => ⟨fun c2 => ?_, fun c2 => ⟨fun c3 => ⟨fun _ => ?_, fun z => absurd c3 z⟩, fun c3 => ⟨7, _, _, rfl, hs, rfl, fun c4 => ⟨fun z => absurd z c3, fun _ => ⟨7, _, _, rfl, hs, rfl, ?_⟩⟩, fun c4 => ?_⟩⟩⟩⟩
  · have hb : bs = true := by
      cases bs with
      | true => rfl
      | false => exact absurd rfl c1
    rw [if_pos (Or.inl hb)] at hK
    exact hK
  · rw [if_pos (Or.inr (Or.inl c2))] at hK
    exact hK
  · have hb := zbI_0.mp c1
    have hf := zbI_0.mp c3
    subst hb hf
    rw [if_neg (by simp [c2])] at hK
    exact hK
  · have hb := zbI_0.mp c1
    have hf : fr = true := by
      cases fr with
      | true => rfl
      | false => exact absurd rfl c3
    subst hb hf
    rw [if_neg (by simp [c2, c4])] at hK
    exact hK
  · have hf : fr = true := by
      cases fr with
      | true => rfl
      | false => exact absurd rfl c3
    rw [if_pos (Or.inr (Or.inr ⟨hf, c4⟩))] at hK
    exact hK
theorem cf_looks_59 (hok : zOk X) {p w : Nat} {s : Int32} (hw : w < 12) (h16 : fa 16 (base + p) = nI w) (hs : zGo g 7 (fo p) = some (zff X fa base fo p s)) {E : zM} (C : zC X (d + 1) E RX7 cX7_looks 9 (some .int) "looks") (hQ : zQ X E K KX) {back : Bool} {x1 most : Int32} (hx : x1 = 0 ↔ back = true) (hK : K (some (.int (zlW (nI w) (fa 18 (base + p)) most back))) g) : GW X E 9 g 59 [(0, .ref (fo p)), (1, .int x1)] [.int most] := by
  rw [← zlQ_W hw] at hK
  have hsrt : (zff X fa base fo p s)[0]? = some (.ref (zE X w)) := by
    unfold zff
    rw [h16, nI_clamp (by omega)]
    rfl
  have eqv : ∀ j, j < 12 → (zE X w = zE X j ↔ w = j) := fun j hj => zE_iff hok hw hj
  -- from 150
  have l150 : ∀ (b5 b6 b0 : Bool) , b5 = decide (w = if back = true then 5 else 8) → b6 = decide (w = 6 ∨ w = 7 ∨ w = 11) → b0 = decide (w = 9 ∨ w = 10) → GW X E 9 g 150 [(0, .ref (fo p)), (1, .int x1), (4, .int most), (5, .int (zbI b5)), (6, .int (zbI b6))] [.int (zbI b0)] := by
    intro b5 b6 b0 e5 e6 e0
    subst e5 e6 e0
    refine bX7_looks_150 (d := d) C hQ g _ _ _ _ _ _ ⟨fun c => ?_, fun c => ?_⟩
    · have e : (if back = true then decide (w = 6 ∨ w = 7 ∨ w = 11) else decide (w = 9 ∨ w = 10)) = decide (w = 6 ∨ w = 7 ∨ w = 11) := if_pos (hx.mp c)
      rw [e] at hK
      exact cf_looks_163 hok hs C hQ hK
    · have e : (if back = true then decide (w = 6 ∨ w = 7 ∨ w = 11) else decide (w = 9 ∨ w = 10)) = decide (w = 9 ∨ w = 10) := if_neg (fun z => c (hx.mpr z))
      rw [e] at hK
      exact cf_looks_163 hok hs C hQ hK
  have l123 : ∀ (b5 b6 : Bool), b5 = decide (w = if back = true then 5 else 8) → b6 = decide (w = 6 ∨ w = 7 ∨ w = 11) → GW X E 9 g 123 [(0, .ref (fo p)), (1, .int x1), (4, .int most), (5, .int (zbI b5))] [.int (zbI b6)] := by
    intro b5 b6 e5 e6
    refine bX7_looks_123 (d := d) C hQ g _ _ _ _ _ ⟨7, _, _, rfl, hs, hsrt, fun c => bX7_looks_145 (d := d) C hQ g _ _ _ _ _ (l150 b5 b6 true e5 e6 ?_), fun c => ⟨7, _, _, rfl, hs, hsrt, fun c2 => l150 b5 b6 false e5 e6 ?_, fun c2 => bX7_looks_145 (d := d) C hQ g _ _ _ _ _ (l150 b5 b6 true e5 e6 ?_)⟩⟩
    · rw [eqv 9 (by omega)] at c
      simp [c]
    · rw [eqv 9 (by omega)] at c
      rw [eqv 10 (by omega)] at c2
      simp [c, c2]
    · rw [eqv 10 (by omega)] at c2
      simp [c2]
  have l86 : ∀ (b5 : Bool), b5 = decide (w = if back = true then 5 else 8) → GW X E 9 g 86 [(0, .ref (fo p)), (1, .int x1), (4, .int most)] [.int (zbI b5)] := by
    intro b5 e5
    refine bX7_looks_86 (d := d) C hQ g _ _ _ _ ⟨7, _, _, rfl, hs, hsrt, fun c => bX7_looks_118 (d := d) C hQ g _ _ _ _ (l123 b5 true e5 ?_), fun c => ⟨7, _, _, rfl, hs, hsrt, fun c2 => bX7_looks_118 (d := d) C hQ g _ _ _ _ (l123 b5 true e5 ?_), fun c2 => ⟨7, _, _, rfl, hs, hsrt, fun c3 => l123 b5 false e5 ?_, fun c3 => bX7_looks_118 (d := d) C hQ g _ _ _ _ (l123 b5 true e5 ?_)⟩⟩⟩
    · rw [eqv 6 (by omega)] at c
      simp [c]
    · rw [eqv 7 (by omega)] at c2
      simp [c2]
    · rw [eqv 6 (by omega)] at c
      rw [eqv 7 (by omega)] at c2
      rw [eqv 11 (by omega)] at c3
      simp [c, c2, c3]
    · rw [eqv 11 (by omega)] at c3
      simp [c3]
  refine bX7_looks_59 (d := d) C hQ g _ _ _ ⟨7, _, _, rfl, hs, hsrt, fun c => ?_, fun c => ?_⟩
  · have hb := hx.mp c
    refine bX7_looks_78 (d := d) C hQ g _ _ _ _ _ ⟨fun c2 => l86 false ?_, fun c2 => l86 true ?_⟩
    · rw [eqv 5 (by omega)] at c2
      simp [hb, c2]
    · rw [eqv 5 (by omega)] at c2
      simp [hb, c2]
  · have hb : ¬ back = true := fun z => c (hx.mpr z)
    refine bX7_looks_78 (d := d) C hQ g _ _ _ _ _ ⟨fun c2 => l86 false ?_, fun c2 => l86 true ?_⟩
    · rw [eqv 8 (by omega)] at c2
      simp [hb, c2]
    · rw [eqv 8 (by omega)] at c2
      simp [hb, c2]
/-- from 39 on: the greater of two -/
theorem cf_looks_39 (hok : zOk X) {p w : Nat} {s : Int32} (hw : w < 12) (h16 : fa 16 (base + p) = nI w) (hs : zGo g 7 (fo p) = some (zff X fa base fo p s)) {E : zM} (C : zC X (d + 1) E RX7 cX7_looks 9 (some .int) "looks") (hQ : zQ X E K KX) {back : Bool} {x1 a b : Int32} (hx : x1 = 0 ↔ back = true) {m : Nat} (ha : zlr m a) (hb : zlr m b) (hm : m ≤ 100000) (hK : K (some (.int (zlW (nI w) (fa 18 (base + p)) (zgr a b) back))) g) : GW X E 9 g 39 [(0, .ref (fo p)), (1, .int x1), (2, .int a)] [.int b] := by
  have l50 : (a = -1 ∨ b = -1) → GW X E 9 g 50 [(0, .ref (fo p)), (1, .int x1)] [] := fun h => by
    have e : zgr a b = -1 := if_pos h
    rw [e] at hK
    exact bX7_looks_50 (d := d) C hQ g _ _ (cf_looks_59 hok hw h16 hs C hQ hx hK)
  refine bX7_looks_39 (d := d) C hQ g _ _ _ _ ⟨fun c => l50 (Or.inl c), fun c => ⟨fun c2 => sp_max hok ⟨_, rfl, ?_⟩, fun c2 => l50 (Or.inr c2)⟩⟩
  have e : (if a < b then b else a) = zgr a b := by
    obtain ⟨k, hk, rfl⟩ := ha.resolve_left c
    obtain ⟨j, hj, rfl⟩ := hb.resolve_left c2
    unfold zgr
    have n : ¬ (nI k = -1 ∨ nI j = -1) := fun z => z.elim c c2
    rw [if_neg n]
    by_cases h : k < j
    · rw [if_pos (nI_lt h (by omega)), if_pos (nI_le (by omega) (by omega))]
    · rw [if_neg (nI_nlt (by omega) (by omega))]
      by_cases h2 : k ≤ j
      · rw [if_pos (nI_le h2 (by omega)), show k = j by omega]
      · rw [if_neg (nI_ge (by omega) (by omega))]
  rw [e]
  exact cf_looks_59 hok hw h16 hs C hQ hx hK
/-- looks: as the model -/
theorem cf_looks (hok : zOk X) (hwf : zwf fa base n) (hfb : zFb fa base n) (hn : n ≤ 24) (hF : zFo X fa base n fo g) {back : Bool} {x1 : Int32} (hx : x1 = 0 ↔ back = true) : ∀ (m p : Nat), p < m → p < n → ∀ (D : Nat) (K : Option Value → zG → Prop) (KX : String → zG → Prop), p + 2 ≤ D → K (some (.int (zlV fa base back p))) g → zCal X D yX7_looks wX7_looks [.ref (fo p), .int x1] g K KX
  | 0, p, hm, hp => absurd hm (Nat.not_lt_zero p)
  | m + 1, p, hm, hp => by
    intro D K KX hD hK
    obtain ⟨d, rfl⟩ : ∃ d, D = d + 1 := ⟨D - 1, by omega⟩
    obtain ⟨s, hs⟩ := hF p hp
    obtain ⟨w, w1, w2, w3, w4, w5, w6, w7⟩ := hwf p hp
    have e : (fa 16 (base + p)).toNatClampNeg = w := by rw [w2, nI_clamp (by omega)]
    have h00 : ∀ k, zlr k 0 := fun k => Or.inr ⟨0, by omega, nI_0.symm⟩
    have hT : ∀ q, q < p → zlr (1000 * p) (zlV fa base back q) := fun q hq => (zlV_r hwf hfb hn back n q (by omega) (by omega)).mono (by omega)
    have hz0 : ∀ {v}, zlr (1000 * p) v → zgr 0 v = v ∨ v = -1 ∧ zgr 0 v = -1 := fun {v} hv => by
      rcases hv with rfl | ⟨k, hk, rfl⟩
      · exact Or.inr ⟨rfl, rfl⟩
      · have n1 : ¬ nI k = -1 := fun z => absurd (show (nI k : Int32) < 0 by rw [z]; decide) (nI_pos (by omega))
        have m1 : ¬ ((0 : Int32) = -1 ∨ nI k = -1) := fun z => z.elim (by decide) n1
        unfold zgr
        rw [if_neg m1, if_pos (nI_pos' (by omega))]
        exact Or.inl rfl
    have hgz : ∀ {v}, zlr (1000 * p) v → zgr 0 v = v := fun {v} hv => (hz0 hv).elim id (fun h => by rw [h.2, h.1])
    rw [zlV_st, zw_ay w1 w2, w2] at hK
    refine mX7_looks (d := d) hok _ _ (fun E C hQ => ?_)
    rcases zfp_c hwf hp fo with ⟨h1, h2, h3, h4⟩ | ⟨h1, h2, h3, h4, h5, h6⟩ | ⟨h1, h2, h3, h4, h5, h6, h7, h8, h9⟩
    · rw [e] at h4
      rw [if_pos h4] at hK
      refine ⟨7, _, none, rfl, hs, by unfold zff; rw [h1]; rfl, fun _ => bX7_looks_19 (d := d) C hQ g _ _ _ ⟨7, _, none, rfl, hs, by unfold zff; rw [h2]; rfl, fun _ => ?_, fun a z => by cases z⟩, fun a z => by cases z⟩
      exact cf_looks_39 hok w1 w2 hs C hQ hx (h00 0) (h00 0) (by omega) hK
    · rw [e] at h6
      have hr := hT (p - 1) (by omega)
      rw [if_neg (by rw [h6]; decide), if_neg (by rw [h6]; decide), zlT_V _ _ _ _ _ (by omega)] at hK
      refine ⟨7, _, some (fo (p - 1)), rfl, hs, by unfold zff; rw [h1]; rfl, fun z => (by cases z), fun a z => ⟨7, _, some (fo (p - 1)), rfl, hs, by unfold zff; rw [h1]; rfl, _, rfl, ⟨7, _, (hF (p - 1) (by omega)).choose_spec, rfl⟩, ?_⟩⟩
      refine cf_looks hok hwf hfb hn hF hx m (p - 1) (by omega) (by omega) _ _ _ (by omega) ⟨_, rfl, bX7_looks_19 (d := d) C hQ g _ _ _ ⟨7, _, none, rfl, hs, by unfold zff; rw [h2]; rfl, fun _ => ?_, fun a z => by cases z⟩⟩
      exact cf_looks_39 hok w1 w2 hs C hQ hx hr (h00 _) (by omega) (by rw [(zlr_gr hr (h00 _) (by omega)).2]; exact hK)
    · rw [e] at h9
      have hr := hT (p - 1) (by omega)
      have hr2 := hT (zf1 fa base p) h4
      rw [if_neg (by rw [h9]; decide), if_pos h9, zlT_V _ _ _ _ _ (by omega), zlT_V _ _ _ _ _ h4, hgz hr] at hK
      refine ⟨7, _, some (fo (zf1 fa base p)), rfl, hs, by unfold zff; rw [h1]; rfl, fun z => (by cases z), fun a z => ⟨7, _, some (fo (zf1 fa base p)), rfl, hs, by unfold zff; rw [h1]; rfl, _, rfl, ⟨7, _, (hF (zf1 fa base p) (by omega)).choose_spec, rfl⟩, ?_⟩⟩
      refine cf_looks hok hwf hfb hn hF hx m (zf1 fa base p) (by omega) (by omega) _ _ _ (by omega) ⟨_, rfl, bX7_looks_19 (d := d) C hQ g _ _ _ ⟨7, _, some (fo (p - 1)), rfl, hs, by unfold zff; rw [h2]; rfl, fun z => (by cases z), fun a z => ⟨7, _, some (fo (p - 1)), rfl, hs, by unfold zff; rw [h2]; rfl, _, rfl, ⟨7, _, (hF (p - 1) (by omega)).choose_spec, rfl⟩, ?_⟩⟩⟩
      refine cf_looks hok hwf hfb hn hF hx m (p - 1) (by omega) (by omega) _ _ _ (by omega) ⟨_, rfl, ?_⟩
      exact cf_looks_39 hok w1 w2 hs C hQ hx hr2 hr (by omega) (by rw [(zlr_gr hr2 hr (by omega)).2]; exact hK)
end LKC
