set_option maxRecDepth 100000
/-- the enum's constants that are said to differ -/
def stP (l : List Cond) : List (String × String) := l.filterMap (fun c => match c with
  | .not (.eq (.static e1 a d1) (.static e2 b d2)) => if e1 = "LogGrammar$Sort" ∧ e2 = "LogGrammar$Sort" ∧ d1 = "LLogGrammar$Sort;" ∧ d2 = "LLogGrammar$Sort;" then some (a, b) else none
  | _ => none)
theorem stP_in {l : List Cond} {a b : String} (h : (a, b) ∈ stP l) : Cond.not (.eq (.static "LogGrammar$Sort" a "LLogGrammar$Sort;") (.static "LogGrammar$Sort" b "LLogGrammar$Sort;")) ∈ l := by
  obtain ⟨c, hc, h⟩ := List.mem_filterMap.mp h
  split at h
  · split at h
    · next q =>
      obtain ⟨q1, q2, q3, q4⟩ := q
      cases h
      subst q1 q2 q3 q4
      exact hc
    · cases h
  · cases h
def stPl : List (String × String) := [("ONCE", "SOON"), ("ONCE", "KIND"), ("SOON", "KIND"), ("ONCE", "VALUE"), ("SOON", "VALUE"), ("KIND", "VALUE"), ("ONCE", "NOT"), ("SOON", "NOT"), ("KIND", "NOT"), ("VALUE", "NOT"), ("ONCE", "BOTH"), ("SOON", "BOTH"), ("KIND", "BOTH"), ("VALUE", "BOTH"), ("NOT", "BOTH"), ("ONCE", "EITHER"), ("SOON", "EITHER"), ("KIND", "EITHER"), ("VALUE", "EITHER"), ("NOT", "EITHER"), ("BOTH", "EITHER"), ("ONCE", "BEFORE"), ("SOON", "BEFORE"), ("KIND", "BEFORE"), ("VALUE", "BEFORE"), ("NOT", "BEFORE"), ("BOTH", "BEFORE"), ("EITHER", "BEFORE"), ("ONCE", "SINCE"), ("SOON", "SINCE"), ("KIND", "SINCE"), ("VALUE", "SINCE"), ("NOT", "SINCE"), ("BOTH", "SINCE"), ("EITHER", "SINCE"), ("BEFORE", "SINCE"), ("ONCE", "NEXT"), ("SOON", "NEXT"), ("KIND", "NEXT"), ("VALUE", "NEXT"), ("NOT", "NEXT"), ("BOTH", "NEXT"), ("EITHER", "NEXT"), ("BEFORE", "NEXT"), ("SINCE", "NEXT"), ("ONCE", "UNTIL"), ("SOON", "UNTIL"), ("KIND", "UNTIL"), ("VALUE", "UNTIL"), ("NOT", "UNTIL"), ("BOTH", "UNTIL"), ("EITHER", "UNTIL"), ("BEFORE", "UNTIL"), ("SINCE", "UNTIL"), ("NEXT", "UNTIL"), ("ONCE", "MANY"), ("SOON", "MANY"), ("KIND", "MANY"), ("VALUE", "MANY"), ("NOT", "MANY"), ("BOTH", "MANY"), ("EITHER", "MANY"), ("BEFORE", "MANY"), ("SINCE", "MANY"), ("NEXT", "MANY"), ("UNTIL", "MANY")]
theorem stP_l : stP (flatC (Jvm.Cond.and given_1 narrow_1)) = stPl := by decide +kernel
theorem st_enum {s : State} {b : Nat} (h : stG b s) (ht : ∀ w ∈ lw_tbl, w.before #[Value.ref b] s = true) : ∃ ad : Nat → Nat, va_En "LogGrammar$Sort" "LLogGrammar$Sort;" znm [zor] ad (stA s) s s.heap := by
  have hs := flat_of_before _ h
  refine va_Enof (fun i hi => ht _ ?_) (ht _ (lw_all_tbl q103)) (fun i hi => hs _ ?_) (fun q hq i hi => hs _ ?_) (fun i j hi hj hij => ?_) (stA_n s)
  · have hi : i < 12 := hi
    have : ∀ i, i < 12 → Cond.laysStatic "LogGrammar$Sort" (znm.getD i "") "LLogGrammar$Sort;" ∈ lw_tbl := by decide +kernel
    exact this i hi
  · have hi : i < 12 := hi
    revert i
    decide +kernel
  · have hi : i < 12 := hi
    rw [List.mem_singleton.mp hq]
    revert i
    decide +kernel
  · have hi : i < 12 := hi
    have hj : j < 12 := hj
    have key : ((List.range 12).all fun i => (List.range 12).all fun j => i == j || (stPl.any (fun q => q.1 == znm.getD i "" && q.2 == znm.getD j "") || stPl.any (fun q => q.1 == znm.getD j "" && q.2 == znm.getD i ""))) = true := by decide +kernel
    have k1 := List.all_eq_true.mp (List.all_eq_true.mp key i (List.mem_range.mpr hi)) j (List.mem_range.mpr hj)
    rw [Bool.or_eq_true, Bool.or_eq_true] at k1
    have get : ∀ a b : String, stPl.any (fun q => q.1 == a && q.2 == b) = true → (a, b) ∈ stP (flatC (Jvm.Cond.and given_1 narrow_1)) := fun a b h => by
      obtain ⟨q, hq, h⟩ := List.any_eq_true.mp h
      rw [Bool.and_eq_true, beq_iff_eq, beq_iff_eq] at h
      rw [stP_l, ← h.1, ← h.2]
      exact hq
    rcases k1 with k1 | k1 | k1
    · exact absurd (beq_iff_eq.mp k1) hij
    · exact Or.inl (hs _ (stP_in (get _ _ k1)))
    · exact Or.inr (hs _ (stP_in (get _ _ k1)))
/-- the law comes to its end, with true -/
theorem whole_start {p : Program} {e : Env} {s : State} {m : MethodId} {below : List Frame} {meth : Method} {c : Code} (l : Launch) (hflags : l.flags = flags0) {b L : Nat} {xs : Nat → Int32} (hL : L ≤ 384) (C0 : lw_At p s m meth c b L xs) : W p l e room_1 s m #[Value.ref b] below meth c s.heap [] 0 0 (lw_Z below #[Value.ref b] s) (entryFrame m ([Value.ref b] : List Value).toArray 7) := by
  obtain ⟨hx, hb, hr, hml, hown, hts, hX, hbl, hlocks, hgv⟩ := id C0
  obtain ⟨D, cA, hK⟩ := st_K hts
  obtain ⟨nf, i1, i2, i3⟩ := st_int hgv hts
  obtain ⟨e1, e2, f1, f2, f3, f4, f5⟩ := st_emp hgv hts
  obtain ⟨⟨m1, g1⟩, m2, g2⟩ := st_mi hgv
  obtain ⟨zf, hE⟩ := st_enum hgv hts
  obtain ⟨X, eX⟩ : ∃ X : zX, X = (l, #[Value.ref b], s, D, cA, zms s + 1200384, zf, nf, e1, e2, m1, m2) := ⟨_, rfl⟩
  have hok : zOk X := by
    subst eX
    exact ⟨hK, hts, hflags, hE, i1, i2, i3, f1, f2, f3, ⟨g1, g2, f4, f5⟩, st_thr hgv hts, st_str hgv hts⟩
  have hnc : zNx X := by
    subst eX
    exact st_nc hgv
  obtain ⟨E, eE⟩ : ∃ E : zM, E = (p, e, room_1, s, m, #[Value.ref b], below, meth, c, lw_Z below #[Value.ref b] s) := ⟨_, rfl⟩
  have hzz : zz X = zms s + 1200384 := by
    rw [eX]
  have C : zC X (1000 + 2) E RX0 cL_law 7 ret meth.name := by
    subst eX eE
    refine ⟨⟨hx, hb, hml, hown⟩, ⟨hlocks, hr, rfl⟩, fun w h => hts w (lw_all_tbl h), hok, State.WarmedH.refl s, ⟨Nat.le_refl _, fun q _ => rfl⟩, ?_, ?_, show (1002 : Nat) ≤ 8192 by decide, show (64 * 1002 : Nat) ≤ 104096 by decide⟩
    · show zms s + 1200384 - zms s ≤ 1200384
      omega
    · show zms s + 1200384 - zms s ≤ 5488810
      omega
  have hS0 : zLS X E b L xs := by
    subst eX eE
    exact ⟨rfl, hX, hbl⟩
  obtain ⟨g0, eg⟩ : ∃ g0 : zG, g0 = (fun _ _ => none, fun _ _ => none, fun _ _ => none, fun _ _ => none, zms s) := ⟨_, rfl⟩
  have hz0 : zGz g0 = zms s := by rw [eg]; rfl
  have hR : zRep X g0 s.heap := by
    subst eX eg
    refine ⟨⟨Nat.le_refl _, fun q _ => rfl⟩, ⟨Nat.le_refl _, Nat.le_add_right _ _⟩, [], fun _ => (0, 0), fun k q h => by simp at h, ⟨fun i j p q h => by simp at h, fun k q h => by simp at h⟩, ?_, ?_, ?_, ?_⟩
    · intro k a fs h
      cases h
    · intro t a n f h
      cases h
    · intro t a n f h
      cases h
    · intro t a n f h
      cases h
  have hEnd : ∀ (g : zG) (lc : List (Nat × Value)), GW X E 7 g 2651 lc [] := fun g lc => by
    subst eX eE
    intro H locs ls hR hS hl
    refine lv_iconst (v := 1) C.x C.b dL_law_2651 (by decide) ?_
    refine zV.bound fun b1 b2 => ?_
    have h1 := hR.2.1
    have hq : ∀ q ∈ locs, s.heap.size ≤ q.base := hS.2.2
    refine va_forget hq ?_
    have b1 : s.heap.size ≤ H.size := b1
    have b2 : zsl s.heap ≤ zsl H := b2
    have h2 : H.size + zsl H ≤ s.heap.size + zsl s.heap + 1200384 := Nat.le_trans h1.1 h1.2
    refine W.widen (k := 1200384) (n := 5488810) (show H.size - s.heap.size ≤ _ by omega) (show zsl H - zsl s.heap ≤ _ by omega) ?_
    exact lw_ret hx hb hr hlocks dL_law_2652
  have k := bL_entry (b := b) (L := L) (xs := xs) (g := g0) hok hnc C hS0 (by rw [hz0, hzz]; omega) (by decide) hL hEnd
  have hl := lv_entry ([.ref b]) (n := 7) (Nat.le_of_ble_eq_true rfl)
  rw [lg_entry_eq]
  generalize (lg_sl ([.ref b]) ++ List.replicate (7 - (lg_sl ([.ref b])).length) Slot.unset).toArray = ls at hl ⊢
  have hl : lv_has ls 7 [(0, .ref b)] := hl
  have k2 := k s.heap [] ls hR (by subst eE; exact va_S.rf) hl
  subst eX eE
  exact zw_tight k2
