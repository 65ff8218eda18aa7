set_option maxRecDepth 100000
/-- a change of the list of kind t that makes nothing -/
def zFk (t : Nat) (g g' : zG) : Prop := zFm t g g' ∧ (∀ y, zob g y → zob g' y) ∧ zGz g' = zGz g
theorem zFk.rf (t : Nat) (g : zG) : zFk t g g := ⟨zFm.rf t g, fun _ h => h, rfl⟩
theorem zFk.trans {t : Nat} {g g' g'' : zG} (h : zFk t g g') (h' : zFk t g' g'') : zFk t g g'' := ⟨h.1.trans h'.1, fun y hy => h'.2.1 y (h.2.1 y hy), h'.2.2.trans h.2.2⟩
theorem zFk.so {t : Nat} {g : zG} (a : Nat) (fs : List Value) : zFk t g (zSo g t a fs) := ⟨zFm.so a fs, fun _ h => h.so, rfl⟩
theorem zFk.sq {t : Nat} {g : zG} (a n : Nat) (f : Nat → Option Nat) : zFk t g (zSq g t a n f) := ⟨zFm.sq a n f, fun _ h => h.mono rfl, rfl⟩
section ZLS3
variable {X : zX} {d : Nat} {g : zG} {K : Option Value → zG → Prop} {KX : String → zG → Prop} {t a : Nat} {mc : Int32} {l : List Nat} {cap : Nat}
theorem sp_clear_loop (ht : 64 ≤ t) {E : zM} (C : zC X d E RJ2 cJ2_clear 4 none "clear") (hQ : zQ X E K KX) {b n : Nat} (hn : n ≤ 10000) : ∀ (m i : Nat) (g : zG), n = i + m → (∀ j, j < n → ∃ (c : Nat) (f : Nat → Option Nat), zGq g t b = some (c, f) ∧ n ≤ c ∧ c ≤ 10000) → (∀ g', zFk t g g' → zGo g' = zGo g → (∀ c f, zGq g t b = some (c, f) → ∃ f', zGq g' t b = some (c, f')) → K none g') → GW X E 4 g 27 [(1, .ref b), (2, .int (nI n)), (3, .int (nI i))] []
  | 0, i, g, hi, hb, hK => bJ2_clear_27 C hQ g b _ _ ⟨fun _ => hK g (zFk.rf t g) rfl (fun c f h => ⟨f, h⟩), fun c => absurd (show nI n ≤ nI i from nI_le (by omega) (by omega)) c⟩
  | m + 1, i, g, hi, hb, hK => by
    refine bJ2_clear_27 C hQ g b _ _ ⟨fun c => absurd c (nI_ge (by omega) (by omega)), fun _ => ?_⟩
    obtain ⟨c, f, hq, h1, h2⟩ := hb i (by omega)
    refine ⟨t, c, f, hq, by omega, vp_in_nI (by omega) (by omega), fun g2 e2 => ?_⟩
    subst e2
    have e := nI_succ i
    rw [← e]
    refine sp_clear_loop ht C hQ hn m (i + 1) _ (by omega) (fun j hj => ⟨c, _, by rw [zSq_q, zup_s], h1, h2⟩) (fun g' F ho hc => ?_)
    refine hK g' ((zFk.sq _ _ _).trans F) ho (fun c' f' h' => ?_)
    rw [hq] at h'
    cases h'
    exact hc c _ (by rw [zSq_q, zup_s])
theorem sp_clear (hok : zOk X) (hL : zL X g t a mc l cap) (ht : 64 ≤ t) (hK : ∀ g' : zG, zL X g' t a (mc + 1) [] cap → zFk t g g' → K none g') : zCal X d yJ2_clear wJ2_clear [.ref a] g K KX := by
  have hk := zkc_0 ht
  obtain ⟨b, f, ho, hq, hf, h1, h2⟩ := hL
  refine mJ2_clear hok a (fun E C hQ => ⟨t, _, mc, hk, ho, rfl, t, _, hk, ho, by simp, fun g2 e2 => ?_⟩)
  have o2 : zGo g2 t a = some [.int (mc + 1), .ref b, .int (nI l.length)] := by
    subst e2
    rw [zSo_o, zup_s]
    rfl
  refine ⟨t, _, b, hk, o2, rfl, t, _, _, hk, o2, rfl, t, _, hk, o2, by simp, fun g3 e3 => ?_⟩
  have o3 : zGo g3 t a = some [.int (mc + 1), .ref b, .int (nI 0)] := by
    subst e3
    rw [zSo_o, zup_s]
    rfl
  have q3 : zGq g3 = zGq g := by
    subst e3 e2
    rfl
  have F3 : zFk t g g3 := by
    subst e3 e2
    exact (zFk.so _ _).trans (zFk.so _ _)
  rw [show (0 : Int32) = nI 0 from nI_0.symm]
  refine sp_clear_loop ht C hQ (n := l.length) (by omega) l.length 0 g3 (by omega) (fun j hj => ?_) (fun g' F hO hC => hK g' ⟨b, ?_⟩ (F3.trans F))
  · rcases hq with hq | ⟨h0, -⟩
    · exact ⟨cap, f, by rw [q3]; exact hq, h1, h2⟩
    · omega
  · rcases hq with hq | ⟨h0, hq⟩
    · obtain ⟨f', hf'⟩ := hC cap f (by rw [q3]; exact hq)
      exact ⟨f', by rw [hO, o3]; rfl, Or.inl hf', fun i hi => absurd hi (Nat.not_lt_zero i), Nat.zero_le _, h2⟩
    · exact ⟨f, by rw [hO, o3]; rfl, Or.inr ⟨h0, hq⟩, fun i hi => absurd hi (Nat.not_lt_zero i), Nat.zero_le _, h2⟩
theorem sp_fastRemove (hok : zOk X) (ht : 64 ≤ t) {b : Nat} {f : Nat → Option Nat} (ho : zGo g t a = some [.int mc, .ref b, .int (nI l.length)]) (hq : zGq g t b = some (cap, f)) (hf : ∀ i : Nat, i < l.length → f i = l[i]?) (h1 : l.length ≤ cap) (h2 : cap ≤ 10000) {i : Nat} (hi : i < l.length) (hob : ∀ y ∈ l, zob g y)
    (hK : ∀ g' : zG, zL X g' t a (mc + 1) (l.eraseIdx i) cap → zFk t g g' → K none g') : zCal X (d + 1) yJ2_fastRemove wJ2_fastRemove [.ref a, .ref b, .int (nI i)] g K KX := by
  have hk := zkc_0 ht
  have ht' : ¬ t < 64 := by omega
  obtain ⟨n, hn⟩ : ∃ n, l.length = n + 1 := ⟨l.length - 1, by omega⟩
  have hlen : (l.eraseIdx i).length = n := by
    rw [List.length_eraseIdx, if_pos hi]
    omega
  refine mJ2_fastRemove hok a b _ ⟨t, _, mc, hk, ho, rfl, t, _, hk, ho, by simp, fun g2 e2 => ?_⟩
  have o2 : zGo g2 t a = some [.int (mc + 1), .ref b, .int (nI (n + 1))] := by
    subst e2
    rw [zSo_o, zup_s, hn]
    rfl
  have q2 : zGq g2 t b = some (cap, f) := by
    subst e2
    exact hq
  have F2 : zFk t g g2 := by
    subst e2
    exact zFk.so _ _
  have fin : ∀ (f' : Nat → Option Nat) (g3 : zG), zGo g3 t a = some [.int (mc + 1), .ref b, .int (nI n)] → zGq g3 t b = some (cap, f') → (∀ j, j < n → f' j = (l.eraseIdx i)[j]?) → zFk t g g3 → K none (zSq g3 t b cap (va_up f' n none)) := by
    intro f' g3 p1 p2 p3 p4
    refine hK _ ⟨b, _, by rw [zSq_o, hlen]; exact p1, Or.inl (by rw [zSq_q, zup_s]), fun j hj => ?_, by omega, h2⟩ (p4.trans (zFk.sq _ _ _))
    rw [va_up_ne _ _ (by omega)]
    exact p3 j (by omega)
  have e1 : nI (n + 1) - 1 = nI n := nI_pred n
  refine ⟨t, _, _, hk, o2, rfl, ?_⟩
  rw [e1]
  refine ⟨fun c => ?_, fun c => ?_⟩
  · have hin : n ≤ i := (nI_leI (by omega) (by omega)).mp c
    refine ⟨t, _, hk, o2, by simp, fun g3 e3 => ⟨t, cap, f, by subst e3; exact q2, ht', vp_in_nI (by omega) (by omega), fun g4 e4 => ?_⟩⟩
    subst e4
    rw [nI_clamp (by omega)]
    refine fin f g3 (by subst e3; rw [zSo_o, zup_s]; rfl) (by subst e3; exact q2) (fun j hj => ?_) (by subst e3; exact F2.trans (zFk.so _ _))
    rw [List.getElem?_eraseIdx, if_pos (by omega)]
    exact hf j (by omega)
  · have hin : i < n := Nat.lt_of_not_le (fun z => c ((nI_leI (by omega) (by omega)).mpr z))
    have e3 : nI n - nI i = nI (n - i) := pk_sub (by omega)
    rw [e3, ← nI_succ i, nI_clamp (n := n) (by omega), nI_clamp (n := i) (by omega), nI_clamp (n := i + 1) (by omega), nI_clamp (n := n - i) (by omega)]
    refine ⟨t, t, cap, cap, f, f, Or.inl ⟨q2, ht'⟩, q2, ht', nI_pos (by omega), nI_pos (by omega), nI_pos (by omega), by omega, by omega, fun j hj y hy => ?_, fun g3 e3 => ?_⟩
    · rw [hf _ (by omega)] at hy
      exact F2.2.1 y (hob y (List.mem_of_getElem? hy))
    · refine ⟨t, _, hk, by subst e3; exact o2, by simp, fun g4 e4 => ⟨t, cap, _, by subst e4 e3; rw [zSo_q, zSq_q, zup_s], ht', vp_in_nI (by omega) (by omega), fun g5 e5 => ?_⟩⟩
      subst e5
      refine fin _ g4 (by subst e4; rw [zSo_o, zup_s]; rfl) (by subst e4 e3; rw [zSo_q, zSq_q, zup_s]) (fun j hj => ?_) (by subst e4 e3; exact F2.trans ((zFk.sq _ _ _).trans (zFk.so _ _)))
      rw [List.getElem?_eraseIdx]
      unfold va_cpy
      by_cases cj : j < i
      · rw [if_pos cj, if_neg (by omega)]
        exact hf j (by omega)
      · rw [if_neg cj, if_pos (by omega), hf _ (by omega)]
        congr 1
        omega
theorem sp_remove (hok : zOk X) (hL : zL X g t a mc l cap) (ht : 64 ≤ t) {i : Nat} (hi : i < l.length) (hob : ∀ y ∈ l, zob g y) (hK : ∀ g' : zG, zL X g' t a (mc + 1) (l.eraseIdx i) cap → zFk t g g' → K (some (.ref l[i])) g') : zCal X (d + 2) yJ2_remove wJ2_remove [.ref a, .int (nI i)] g K KX := by
  have hk := zkc_0 ht
  obtain ⟨b, f, ho, hq, hf, h1, h2⟩ := hL
  have hq : zGq g t b = some (cap, f) := by
    rcases hq with hq | ⟨h0, -⟩
    · exact hq
    · omega
  refine mJ2_remove hok a _ ⟨t, _, _, hk, ho, rfl, sp_checkIndex hok hi (by omega) ⟨_, rfl, t, _, b, hk, ho, rfl, t, cap, f, hq, vp_in_nI (by omega) (by omega), fun r hr => ⟨⟨t, _, ho, hk⟩, sp_fastRemove hok ht ho hq hf h1 h2 hi hob (fun g' p1 p2 => ⟨rfl, ?_⟩)⟩⟩⟩
  subst hr
  rw [nI_clamp (by omega), hf i hi, List.getElem?_eq_getElem hi]
  exact hK g' p1 p2
theorem sp_set (hok : zOk X) (hL : zL X g t a mc l cap) (ht : 64 ≤ t) {i : Nat} (hi : i < l.length) {x : Nat} (hx : zob g x) (hK : ∀ g' : zG, zL X g' t a mc (l.set i x) cap → zFk t g g' → K (some (.ref l[i])) g') : zCal X (d + 2) yJ2_set wJ2_set [.ref a, .int (nI i), .ref x] g K KX := by
  have hk := zkc_0 ht
  have hL0 := hL
  obtain ⟨b, f, ho, hq, hf, h1, h2⟩ := hL
  have hq : zGq g t b = some (cap, f) := by
    rcases hq with hq | ⟨h0, -⟩
    · exact hq
    · omega
  refine mJ2_set hok a _ x ⟨t, _, _, hk, ho, rfl, sp_checkIndex hok hi (by omega) ⟨_, rfl, hL0.is ht, sp_elementData hok hL0 ht hi ⟨_, rfl, t, _, b, hk, ho, rfl, t, cap, f, hq, by omega, vp_in_nI (by omega) (by omega), hx, fun g2 e2 => ?_⟩⟩⟩
  subst e2
  rw [List.getElem?_eq_getElem hi, nI_clamp (by omega)]
  refine hK _ ⟨b, _, by rw [zSq_o, List.length_set]; exact ho, Or.inl (by rw [zSq_q, zup_s]), fun j hj => ?_, by rw [List.length_set]; exact h1, h2⟩ (zFk.sq _ _ _)
  rw [List.length_set] at hj
  rw [List.getElem?_set]
  unfold va_up
  by_cases c : i = j
  · subst c
    rw [if_pos rfl, if_pos rfl, if_pos hi]
  · rw [if_neg c, if_neg (fun z => c z.symm)]
    exact hf j hj
end ZLS3
