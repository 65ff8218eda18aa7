set_option maxRecDepth 100000
section ITN
variable {X : zX} {d : Nat} {g : zG} {K : Option Value → zG → Prop} {KX : String → zG → Prop} {t a : Nat} {mc : Int32} {l : List Nat} {cap : Nat}
/-- the iterator, as something new -/
theorem it_iterator (hok : zOk X) (hL : zL X g t a mc l cap) (ht : 64 ≤ t) (hz : zGz g + 5 ≤ zz X) {D : Nat} (hD : 2 ≤ D) (hK : ∀ (q : Nat) (g' : zG), zFr g q → zIt g' q a 0 mc → zFe (fun _ => False) g g' → zGz g' = zGz g + 5 → K (some (.ref q)) g') : zCal X D yJ2_iterator wJ2_iterator [.ref a] g K KX := by
  obtain ⟨d, rfl⟩ : ∃ d, D = d + 2 := ⟨D - 2, by omega⟩
  have hk := zkc_0 ht
  have h11 : t ≠ 11 := by omega
  obtain ⟨b, f, ho, hq, hf, h1, h2⟩ := hL
  refine mJ2_iterator (d := d + 1) hok a ⟨by omega, fun q hfr g2 e2 => mJ22_init hok q a ⟨_, by subst e2; rw [zSz_o, zSo_o, zup_s], by simp, fun g3 e3 => ⟨_, by subst e3; rw [zSo_o, zup_s], by simp, fun g4 e4 => ⟨_, a, by subst e4; rw [zSo_o, zup_s], rfl, t, [.int mc, .ref b, .int (nI l.length)], mc, hk, ?_, rfl, _, by subst e4; rw [zSo_o, zup_s], by simp, fun g5 e5 => ⟨rfl, ?_⟩⟩⟩⟩⟩
  · subst e4 e3 e2
    rw [zSo_o, zup_k _ _ _ _ h11, zSo_o, zup_k _ _ _ _ h11, zSz_o, zSo_o, zup_k _ _ _ _ h11]
    exact ho
  · have e : g5 = zSz (zSo g 11 q [.int 0, .int (-1), .int mc, .ref a]) (zGz g + 1 + 4) := by
      subst e5 e4 e3 e2
      simp only [zSo_sz, zSo_so]
      rfl
    refine hK q _ hfr ⟨-1, by rw [e, zSz_o, zSo_o, zup_s, nI_0]⟩ (by rw [e]; exact zFe.new hfr _) (by rw [e]; rfl)
/-- next, and nothing but the iterator changes -/
theorem it_next (hok : zOk X) (hL : zL X g t a mc l cap) (ht : 64 ≤ t) {q i : Nat} (hI : zIt g q a i mc) (hi : i < l.length) {D : Nat} (hD : 1 ≤ D) (hK : ∀ g' : zG, zIt g' q a (i + 1) mc → (∀ k, k ≠ 11 → zGo g' k = zGo g k) → (∀ b, b ≠ q → zGo g' 11 b = zGo g 11 b) → zGi g' = zGi g → zGq g' = zGq g → zGj g' = zGj g → zGz g' = zGz g → K (some (.ref l[i])) g') : zCal X D yJ22_next wJ22_next [.ref q] g K KX := by
  obtain ⟨d, rfl⟩ : ∃ d, D = d + 1 := ⟨D - 1, by omega⟩
  have hk := zkc_0 ht
  have h11 : t ≠ 11 := by omega
  obtain ⟨b, f, ho, hq, hf, h1, h2⟩ := hL
  have hq : zGq g t b = some (cap, f) := by
    rcases hq with hq | ⟨h0, -⟩
    · exact hq
    · omega
  obtain ⟨x, hI⟩ := hI
  refine mJ22_next hok q ⟨⟨11, _, hI, rfl⟩, mJ22_checkForComodification hok q ⟨_, a, hI, rfl, t, _, mc, hk, ho, rfl, _, _, hI, rfl, fun _ => ⟨rfl, _, _, hI, rfl, _, a, hI, rfl, t, _, _, hk, ho, rfl, fun _ => ⟨_, a, hI, rfl, t, _, b, hk, ho, rfl, cap, Or.inl ⟨t, f, hq⟩, fun v hv => ?_⟩, fun c => absurd (nI_lt hi (by omega)) c⟩, fun c => absurd rfl c⟩⟩
  subst hv
  refine ⟨fun _ => ⟨_, hI, by simp, fun g2 e2 => ⟨_, by subst e2; rw [zSo_o, zup_s], by simp, fun g3 e3 => ⟨t, cap, f, by subst e3 e2; exact hq, vp_in_nI (by omega) (by omega), fun r hr => ?_⟩⟩⟩, fun c => absurd (show nI i < nI cap from nI_lt (by omega) (by omega)) c⟩
  subst hr
  rw [nI_clamp (by omega), hf i hi, List.getElem?_eq_getElem hi]
  have e : g3 = zSo g 11 q [.int (nI (i + 1)), .int (nI i), .int mc, .ref a] := by
    subst e3 e2
    simp only [zSo_so, nI_succ]
    rfl
  subst e
  exact hK _ ⟨nI i, by rw [zSo_o, zup_s]⟩ (fun k hk => by funext b; rw [zSo_o, zup_k _ _ _ _ hk]) (fun b hb => by rw [zSo_o, zup_a _ _ _ _ hb]) rfl rfl rfl rfl
/-- next, in the words of the frame -/
theorem it_next' (hok : zOk X) (hL : zL X g t a mc l cap) (ht : 64 ≤ t) {q i : Nat} (hI : zIt g q a i mc) (hi : i < l.length) {D : Nat} (hD : 1 ≤ D) (hK : ∀ g' : zG, zIt g' q a (i + 1) mc → zFe (fun k => k = 11) g g' → (∀ b, b ≠ q → zGo g' 11 b = zGo g 11 b) → zGz g' = zGz g → K (some (.ref (zr l i))) g') : zCal X D yJ22_next wJ22_next [.ref q] g K KX :=
  it_next hok hL ht hI hi hD (fun g' a1 a2 a3 a4 a5 a6 a7 => by
    have := hK g' a1 ⟨fun k hk b fs e => by rw [a2 k hk]; exact e, fun k _ b v e => by rw [a4]; exact e, fun k _ b v e => by rw [a5]; exact e, a6⟩ a3 a7
    rw [zr_el hi] at this
    exact this)
theorem zIt.fe {P : Nat → Prop} {g g' : zG} {q a i : Nat} {mc : Int32} (h : zIt g q a i mc) (e : zFe P g g') (h11 : ¬ P 11) : zIt g' q a i mc := by
  obtain ⟨x, h⟩ := h
  exact ⟨x, e.1 11 h11 _ _ h⟩
theorem zIt.is {g : zG} {q a i : Nat} {mc : Int32} (h : zIt g q a i mc) : zIs g 11 q := by
  obtain ⟨x, h⟩ := h
  exact ⟨11, _, h, rfl⟩
end ITN
/-- the events of a kind, with times and values -/
def zEk (fa : Nat → Nat → Int32) (kd : Int32) : Nat → List (Nat × Int32)
  | 0 => []
  | n + 1 => zEk fa kd n ++ (if fa 8 n = kd then [((fa 7 n).toNatClampNeg, fa 10 n)] else [])
/-- times are 0 to 11000, values -1000 to 1000 -/
def zEr (fa : Nat → Nat → Int32) (n : Nat) : Prop := ∀ v : Nat, v < n → (∃ t : Nat, t ≤ 11000 ∧ fa 7 v = nI t) ∧ -1000 ≤ (fa 10 v).toInt ∧ (fa 10 v).toInt ≤ 1000
theorem zEk_r {fa : Nat → Nat → Int32} {kd : Int32} : ∀ {n : Nat}, zEr fa n → ∀ x ∈ zEk fa kd n, x.1 ≤ 11000 ∧ -1000 ≤ x.2.toInt ∧ x.2.toInt ≤ 1000
  | 0, _, x, hx => by cases hx
  | n + 1, h, x, hx => by
    rcases List.mem_append.mp hx with hx | hx
    · exact zEk_r (n := n) (fun v hv => h v (by omega)) x hx
    · by_cases c : fa 8 n = kd
      · rw [if_pos c] at hx
        rw [List.mem_singleton.mp hx]
        obtain ⟨⟨t, h1, h2⟩, h3⟩ := h n (by omega)
        refine ⟨?_, h3⟩
        show (fa 7 n).toNatClampNeg ≤ 11000
        rw [h2, nI_clamp (by omega)]
        exact h1
      · rw [if_neg c] at hx
        cases hx
theorem zEk_len {fa : Nat → Nat → Int32} {kd : Int32} : ∀ n : Nat, (zEk fa kd n).length ≤ n
  | 0 => Nat.le_refl _
  | n + 1 => by
    have := zEk_len (fa := fa) (kd := kd) n
    show (zEk fa kd n ++ _).length ≤ _
    rw [List.length_append]
    split
    · rw [List.length_singleton]
      omega
    · rw [List.length_nil]
      omega
/-- whether an event counts -/
theorem zSl_s {fa : Nat → Nat → Int32} {kd : Int32} {n a b : Nat} (ha : a ≤ 11000) (hb : b ≤ 11000) (h : ∃ t : Nat, t ≤ 11000 ∧ fa 7 n = nI t) : zSl (zEk fa kd (n + 1)) a b = zSl (zEk fa kd n) a b ++ (if fa 8 n = kd ∧ ¬ zIn (fa 7 n) (nI a) (nI b) = 0 then [((fa 7 n).toNatClampNeg, fa 10 n)] else []) := by
  obtain ⟨t, h1, h2⟩ := h
  have hin : ¬ zIn (fa 7 n) (nI a) (nI b) = 0 ↔ a ≤ t ∧ t ≤ b := by
    rw [h2]
    unfold zIn
    by_cases c1 : t < a
    · rw [if_pos (nI_lt c1 (by omega))]
      simp
      omega
    · rw [if_neg (nI_nlt (by omega) (by omega))]
      by_cases c2 : b < t
      · rw [if_pos (nI_lt c2 (by omega))]
        simp
        omega
      · rw [if_neg (nI_nlt (by omega) (by omega))]
        simp
        omega
  show List.filter _ (zEk fa kd n ++ _) = _
  rw [List.filter_append]
  congr 1
  have hcl : (fa 7 n).toNatClampNeg = t := by rw [h2, nI_clamp (by omega)]
  by_cases c : fa 8 n = kd
  · rw [if_pos c]
    by_cases c2 : a ≤ t ∧ t ≤ b
    · rw [if_pos ⟨c, hin.mpr c2⟩, List.filter_cons_of_pos (by rw [decide_eq_true_iff]; show a ≤ (fa 7 n).toNatClampNeg ∧ (fa 7 n).toNatClampNeg ≤ b; rw [hcl]; exact c2), List.filter_nil]
    · rw [if_neg (fun z => c2 (hin.mp z.2)), List.filter_cons_of_neg (by rw [decide_eq_true_iff]; show ¬ (a ≤ (fa 7 n).toNatClampNeg ∧ (fa 7 n).toNatClampNeg ≤ b); rw [hcl]; exact c2), List.filter_nil]
  · rw [if_neg c, if_neg (fun z => c z.1)]
    rfl
theorem zct_E {fa : Nat → Nat → Int32} {kd : Int32} {a b : Nat} (ha : a ≤ 11000) (hb : b ≤ 11000) : ∀ {n : Nat}, zEr fa n → zct fa kd (nI a) (nI b) n = nI (zSl (zEk fa kd n) a b).length
  | 0, _ => rfl
  | n + 1, h => by
    rw [zSl_s ha hb (h n (by omega)).1, List.length_append, ← nI_add, ← zct_E ha hb (n := n) (fun v hv => h v (by omega))]
    show zct fa kd (nI a) (nI b) n + _ = _
    split <;> rfl
theorem zgt_E {fa : Nat → Nat → Int32} {kd : Int32} {a b : Nat} (ha : a ≤ 11000) (hb : b ≤ 11000) : ∀ {n : Nat}, zEr fa n → (zSl (zEk fa kd n) a b = [] → zgt fa kd (nI a) (nI b) n = -1001) ∧ (zSl (zEk fa kd n) a b ≠ [] → (∃ x ∈ zSl (zEk fa kd n) a b, x.2 = zgt fa kd (nI a) (nI b) n) ∧ ∀ x ∈ zSl (zEk fa kd n) a b, x.2 ≤ zgt fa kd (nI a) (nI b) n)
  | 0, _ => ⟨fun _ => rfl, fun h => absurd rfl h⟩
  | n + 1, h => by
    obtain ⟨i1, i2⟩ := zgt_E ha hb (kd := kd) (n := n) (fun v hv => h v (by omega))
    rw [zSl_s ha hb (h n (by omega)).1]
    have hv := (h n (by omega)).2.1
    have e : zgt fa kd (nI a) (nI b) (n + 1) = if fa 8 n = kd ∧ ¬ zIn (fa 7 n) (nI a) (nI b) = 0 ∧ ¬ fa 10 n ≤ zgt fa kd (nI a) (nI b) n then fa 10 n else zgt fa kd (nI a) (nI b) n := rfl
    rw [e]
    by_cases c : fa 8 n = kd ∧ ¬ zIn (fa 7 n) (nI a) (nI b) = 0
    · rw [if_pos c]
      refine ⟨fun z => absurd z (by simp), fun _ => ?_⟩
      by_cases c2 : fa 10 n ≤ zgt fa kd (nI a) (nI b) n
      · rw [if_neg (fun z => z.2.2 c2)]
        have hne : zSl (zEk fa kd n) a b ≠ [] := fun z => by
          rw [i1 z, Int32.le_iff_toInt_le] at c2
          have : (-1001 : Int32).toInt = -1001 := by decide
          omega
        obtain ⟨⟨y, y1, y2⟩, y3⟩ := i2 hne
        refine ⟨⟨y, List.mem_append_left _ y1, y2⟩, fun z hz => ?_⟩
        rcases List.mem_append.mp hz with hz | hz
        · exact y3 z hz
        · rw [List.mem_singleton.mp hz]
          exact c2
      · rw [if_pos ⟨c.1, c.2, c2⟩]
        refine ⟨⟨_, List.mem_append_right _ (List.mem_singleton.mpr rfl), rfl⟩, fun z hz => ?_⟩
        rcases List.mem_append.mp hz with hz | hz
        · exact Int32.le_trans ((i2 (fun w => by rw [w] at hz; cases hz)).2 z hz) (Int32.le_of_lt (Int32.not_le.mp c2))
        · rw [List.mem_singleton.mp hz]
          exact Int32.le_refl _
    · rw [if_neg c, if_neg (fun z => c ⟨z.1, z.2.1⟩), List.append_nil]
      exact ⟨i1, i2⟩
