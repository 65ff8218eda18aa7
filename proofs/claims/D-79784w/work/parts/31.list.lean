set_option maxRecDepth 100000
theorem zkc_0 {t : Nat} (h : 64 ≤ t) : zkc t = 0 := by unfold zkc; rw [if_neg (by omega), if_neg (by omega)]
/-- a list of kind t at a: modCount mc, elements l, so many places -/
def zL (X : zX) (g : zG) (t a : Nat) (mc : Int32) (l : List Nat) (cap : Nat) : Prop :=
  ∃ (b : Nat) (f : Nat → Option Nat), zGo g t a = some [.int mc, .ref b, .int (nI l.length)] ∧ (zGq g t b = some (cap, f) ∨ cap = 0 ∧ (b = ze1 X ∨ b = ze2 X)) ∧ (∀ i : Nat, i < l.length → f i = l[i]?) ∧ l.length ≤ cap ∧ cap ≤ 10000
/-- what a change of the list of kind t leaves -/
def zFm (t : Nat) (g g' : zG) : Prop := (∀ k : Nat, k ≠ t → zGo g' k = zGo g k) ∧ zGi g' = zGi g ∧ (∀ k : Nat, k ≠ t → zGq g' k = zGq g k) ∧ zGj g' = zGj g
theorem zFm.rf (t : Nat) (g : zG) : zFm t g g := ⟨fun _ _ => rfl, rfl, fun _ _ => rfl, rfl⟩
theorem zFm.trans {t : Nat} {g g' g'' : zG} (h : zFm t g g') (h' : zFm t g' g'') : zFm t g g'' := ⟨fun k hk => (h'.1 k hk).trans (h.1 k hk), h'.2.1.trans h.2.1, fun k hk => (h'.2.2.1 k hk).trans (h.2.2.1 k hk), h'.2.2.2.trans h.2.2.2⟩
theorem zFm.so {t : Nat} {g : zG} (a : Nat) (fs : List Value) : zFm t g (zSo g t a fs) := ⟨fun k hk => by funext b; rw [zSo_o, zup_k _ _ _ _ hk], rfl, fun _ _ => rfl, rfl⟩
theorem zFm.sq {t : Nat} {g : zG} (a n : Nat) (f : Nat → Option Nat) : zFm t g (zSq g t a n f) := ⟨fun _ _ => rfl, rfl, fun k hk => by funext b; rw [zSq_q, zup_k _ _ _ _ hk], rfl⟩
theorem zFm.sz {t : Nat} {g : zG} (z : Nat) : zFm t g (zSz g z) := ⟨fun _ _ => rfl, rfl, fun _ _ => rfl, rfl⟩
theorem zL.is {X : zX} {g : zG} {t a : Nat} {mc : Int32} {l : List Nat} {cap : Nat} (h : zL X g t a mc l cap) (ht : 64 ≤ t) : zIs g 0 a := by
  obtain ⟨b, f, ho, -⟩ := h
  exact ⟨t, _, ho, zkc_0 ht⟩
theorem zL.frame {X : zX} {g g' : zG} {t t' a : Nat} {mc : Int32} {l : List Nat} {cap : Nat} (h : zL X g t a mc l cap) (ho : zGo g' t = zGo g t) (hq : zGq g' t = zGq g t) : zL X g' t a mc l cap := by
  unfold zL
  rw [ho, hq]
  exact h
/-- what the list's growing may cost yet -/
def zpot (cap : Nat) : Nat := 5 * (400 - cap)
theorem zL.len {X : zX} {g : zG} {t a : Nat} {mc : Int32} {l : List Nat} {cap : Nat} (h : zL X g t a mc l cap) : l.length ≤ cap ∧ cap ≤ 10000 := by
  obtain ⟨b, f, -, -, -, h1, h2⟩ := h
  exact ⟨h1, h2⟩
section ZLS
variable {X : zX} {d : Nat} {g : zG} {K : Option Value → zG → Prop} {KX : String → zG → Prop} {t a : Nat} {mc : Int32} {l : List Nat} {cap : Nat}
theorem sp_size (hok : zOk X) (hL : zL X g t a mc l cap) (ht : 64 ≤ t) (hK : K (some (.int (nI l.length))) g) : zCal X d yJ2_size wJ2_size [.ref a] g K KX := by
  obtain ⟨b, f, ho, -⟩ := hL
  exact mJ2_size hok a ⟨t, _, _, zkc_0 ht, ho, rfl, hK⟩
theorem sp_checkIndex (hok : zOk X) {i n : Nat} (hi : i < n) (hn : n < 2 ^ 31) (hK : K (some (.int (nI i))) g) : zCal X (d + 1) yJ14_checkIndex wJ14_checkIndex [.int (nI i), .int (nI n)] g K KX := by
  refine mJ14_checkIndex hok _ _ ?_
  exact mJ15_checkIndex hok (nI i) (nI n) none ⟨fun c => absurd c (nI_pos (by omega)), fun _ => ⟨fun _ => ⟨_, rfl, hK⟩, fun c => absurd (nI_lt hi hn) c⟩⟩
theorem sp_elementData (hok : zOk X) (hL : zL X g t a mc l cap) (ht : 64 ≤ t) {i : Nat} (hi : i < l.length) (hK : K (some (va_rf l[i]?)) g) : zCal X d yJ2_elementData wJ2_elementData [.ref a, .int (nI i)] g K KX := by
  obtain ⟨b, f, ho, hq, hf, h1, h2⟩ := hL
  rcases hq with hq | ⟨rfl, -⟩
  · refine mJ2_elementData hok a _ ⟨t, _, _, zkc_0 ht, ho, rfl, t, cap, f, hq, vp_in_nI (by omega) (by omega), ?_⟩
    intro r hr
    rw [nI_clamp (by omega), hf i hi] at hr
    subst hr
    exact hK
  · omega
theorem sp_get (hok : zOk X) (hL : zL X g t a mc l cap) (ht : 64 ≤ t) {i : Nat} (hi : i < l.length) (hK : K (some (.ref l[i])) g) : zCal X (d + 2) yJ2_get wJ2_get [.ref a, .int (nI i)] g K KX := by
  obtain ⟨h1, h2⟩ := hL.len
  have hL0 := hL
  obtain ⟨b, f, ho, -⟩ := hL0
  refine mJ2_get hok a _ ⟨t, _, _, zkc_0 ht, ho, rfl, sp_checkIndex hok hi (by omega) ⟨_, rfl, hL.is ht, sp_elementData hok hL ht hi ⟨_, rfl, ?_⟩⟩⟩
  rw [List.getElem?_eq_getElem hi]
  exact hK
theorem sp_max (hok : zOk X) {x y : Int32} (hK : K (some (.int (if x < y then y else x))) g) : zCal X d yJ4_max wJ4_max [.int x, .int y] g K KX := by
  refine mJ4_max hok _ _ ⟨fun c => ?_, fun c => ?_⟩
  · rw [if_pos c] at hK; exact hK
  · rw [if_neg c] at hK; exact hK
theorem sp_min (hok : zOk X) {x y : Int32} (hK : K (some (.int (if y < x then y else x))) g) : zCal X d yJ4_min wJ4_min [.int x, .int y] g K KX := by
  refine mJ4_min hok _ _ ⟨fun c => ?_, fun c => ?_⟩
  · rw [if_pos c] at hK; exact hK
  · rw [if_neg c] at hK; exact hK
theorem sp_abs (hok : zOk X) {x : Int32} (hK : K (some (.int (if x < 0 then -x else x))) g) : zCal X d yJ4_abs wJ4_abs [.int x] g K KX := by
  refine mJ4_abs hok _ ?_
  by_cases c : x < 0
  · rw [if_pos c] at hK
    exact ⟨fun z => absurd c (Int32.not_lt.mpr z), fun _ => hK⟩
  · rw [if_neg c] at hK
    exact ⟨fun _ => hK, fun z => absurd (Int32.not_lt.mp c) z⟩
theorem sp_newLength (hok : zOk X) {o m p : Nat} (ho : o ≤ 10000) (hm : m ≤ 10000) (hp : p ≤ 10000) (h1 : 1 ≤ m ∨ 1 ≤ p) (hK : K (some (.int (nI (o + (if m < p then p else m))))) g) : zCal X (d + 1) yJ3_newLength wJ3_newLength [.int (nI o), .int (nI m), .int (nI p)] g K KX := by
  refine mJ3_newLength hok _ _ _ ?_
  have e : (if nI m < nI p then nI p else nI m) = nI (if m < p then p else m) := by
    by_cases c : m < p
    · rw [if_pos c, if_pos (nI_lt c (by omega))]
    · rw [if_neg c, if_neg (nI_nlt (by omega) (by omega))]
  have hb : 1 ≤ (if m < p then p else m) ∧ (if m < p then p else m) ≤ 10000 := by split <;> omega
  refine sp_max hok ⟨_, rfl, ?_⟩
  rw [e, nI_add]
  generalize (if m < p then p else m) = q at hb hK ⊢
  refine ⟨fun c => ?_, fun c => ⟨fun z => ?_, fun _ => hK⟩⟩
  · exact absurd c (nI_nle (by omega) (by omega))
  · exact absurd z (nI_nlt (a := 2147483639) (b := o + q) (by omega) (by omega))
end ZLS
