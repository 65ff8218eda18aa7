set_option maxRecDepth 100000
/-- an iterator at q over the list at a: its next place, the modCount it was made with -/
def zIt (g : zG) (q a i : Nat) (mc : Int32) : Prop := ∃ x : Int32, zGo g 11 q = some [.int (nI i), .int x, .int mc, .ref a]
section ZLS5
variable {X : zX} {d : Nat} {g : zG} {K : Option Value → zG → Prop} {KX : String → zG → Prop} {t a : Nat} {mc : Int32} {l : List Nat} {cap : Nat}
theorem sp_init0 (hok : zOk X) (q : Nat) (hK : K none g) : zCal X (d + 1) yJ0_init wJ0_init [.ref q] g K KX := mJ0_init hok q hK
theorem sp_linit (hok : zOk X) (ht : 64 ≤ t) {q : Nat} (hq : zGo g t q = some [.int 0, .null, .int 0]) (hK : ∀ g' : zG, zL X g' t q 0 [] 0 → zFk t g g' → K none g') : zCal X (d + 3) yJ2_init wJ2_init [.ref q] g K KX := by
  have hk := zkc_0 ht
  refine mJ2_init (d := d + 2) hok q (mJ1_init (d := d + 1) hok q (mJ0_init hok q ⟨rfl, t, _, hk, hq, by simp, fun g2 e2 => ⟨rfl, t, [.int 0, .null, .int 0], hk, ?_, by simp, fun g3 e3 => ?_⟩⟩))
  · subst e2
    rw [zSo_o, zup_s]
    rfl
  · subst e3
    refine hK _ ⟨ze2 X, fun _ => none, ?_, Or.inr ⟨rfl, Or.inr rfl⟩, fun i hi => absurd hi (Nat.not_lt_zero i), Nat.le_refl _, by omega⟩ ?_
    · rw [zSo_o, zup_s]
      rfl
    · subst e2
      exact (zFk.so _ _).trans (zFk.so _ _)
/-- a list of another list's things: of another kind -/
theorem sp_linit2 (hok : zOk X) (ht : 64 ≤ t) {t' : Nat} (ht' : 64 ≤ t') (htt : t ≠ t') (hL : zL X g t a mc l cap) {q : Nat} (hq : zGo g t' q = some [.int 0, .null, .int 0]) (hz : zGz g + 200 ≤ zz X) (hlen : l.length ≤ 100) (hob : ∀ y ∈ l, zob g y)
    (hK : ∀ g' : zG, zL X g' t' q 0 l l.length → zFm t' g g' → (∀ y, zob g y → zob g' y) → zGz g' = zGz g + 1 + l.length → K none g') : zCal X (d + 4) yJ2_init_2 wJ2_init_2 [.ref q, .ref a] g K KX := by
  have hk := zkc_0 ht
  have hk' := zkc_0 ht'
  have hL0 := hL
  obtain ⟨b, f, ho, hq0, hf, h1, h2⟩ := hL
  refine mJ2_init_2 (d := d + 3) hok q a (mJ1_init (d := d + 2) hok q (mJ0_init hok q ⟨rfl, t', _, hk', hq, by simp, fun g2 e2 => ⟨rfl, ?_⟩⟩))
  have o2 : zGo g2 t = zGo g t := by
    subst e2
    funext y
    rw [zSo_o, zup_k _ _ _ _ htt]
  have n2 : zGo g2 t' q = some [.int 0, .null, .int 0] := by
    subst e2
    rw [zSo_o, zup_s]
    rfl
  have F2 : zFk t' g g2 := by
    subst e2
    exact zFk.so _ _
  have q2 : zGq g2 = zGq g := by
    subst e2
    rfl
  have z2 : zGz g2 = zGz g := F2.2.2
  clear e2
  refine ⟨⟨t, _, by rw [o2]; exact ho, hk⟩, mJ2_toArray hok a ⟨t, _, b, hk, by rw [o2]; exact ho, rfl, t, _, _, hk, by rw [o2]; exact ho, rfl, sp_copyOf hok ht t' ht' (f := f) (cap := cap) (by rw [q2]; exact hq0) h2 (by omega) (by rw [z2]; omega) (fun i hi hi2 y hy => ?_) (fun q1 g3 f' hfr p1 p2 p3 p4 p5 => ⟨_, rfl, _, rfl, l.length, Or.inl ⟨t', f', p1⟩, fun v hv => ?_⟩)⟩⟩
  · rw [hf i hi2] at hy
    exact F2.2.1 y (hob y (List.mem_of_getElem? hy))
  · subst hv
    refine ⟨t', _, hk', by rw [p4]; exact n2, by simp, fun g4 e4 => ?_⟩
    have o4 : zGo g4 t' q = some [.int 0, .null, .int (nI l.length)] := by
      subst e4
      rw [zSo_o, zup_s]
      rfl
    have q4 : zGq g4 = zGq g3 := by
      subst e4
      rfl
    have F4 : zFm t' g g4 := by
      subst e4
      exact F2.1.trans (p3.trans (zFm.so _ _))
    have B4 : ∀ y, zob g y → zob g4 y := by
      subst e4
      exact fun y hy => ((F2.2.1 y hy).mono p4).so
    have z4 : zGz g4 = zGz g + 1 + l.length := by
      subst e4
      show zGz g3 = _
      rw [p5, z2]
    have o4t : zGo g4 t = zGo g t := F4.1 t htt
    clear e4
    refine ⟨fun c => ?_, fun c => ⟨⟨t, _, by rw [o4t]; exact ho, hk⟩, fun z => absurd rfl z, fun _ => ⟨t', _, hk', o4, by simp, fun g5 e5 => ?_⟩⟩⟩
    · have c0 : l.length = 0 := (nI_eq (b := 0) (by omega) (by omega)).mp (by rw [nI_0]; exact c)
      refine ⟨t', _, hk', o4, by simp, fun g5 e5 => ?_⟩
      subst e5
      refine hK _ ⟨ze1 X, f', by rw [zSo_o, zup_s]; rfl, Or.inr ⟨c0, Or.inl rfl⟩, fun i hi => by omega, Nat.le_refl _, by omega⟩ (F4.trans (zFm.so _ _)) (fun y hy => (B4 y hy).so) z4
    · subst e5
      refine hK _ ⟨q1, f', by rw [zSo_o, zup_s]; rfl, Or.inl (by rw [zSo_q, q4]; exact p1), fun i hi => (p2 i (by omega) hi).trans (hf i hi), Nat.le_refl _, by omega⟩ (F4.trans (zFm.so _ _)) (fun y hy => (B4 y hy).so) z4
/-- the iterator -/
theorem sp_iterator (hok : zOk X) (hL : zL X g t a mc l cap) (ht : 64 ≤ t) (hz : zGz g + 5 ≤ zz X) (hK : ∀ (q : Nat) (g' : zG), zFr g q → zIt g' q a 0 mc → zFm 11 g g' → (∀ y, zob g y → zob g' y) → zGz g' = zGz g + 5 → K (some (.ref q)) g') : zCal X (d + 2) yJ2_iterator wJ2_iterator [.ref a] g K KX := by
  have hk := zkc_0 ht
  have h11 : t ≠ 11 := by omega
  obtain ⟨b, f, ho, hq, hf, h1, h2⟩ := hL
  refine mJ2_iterator (d := d + 1) hok a ⟨by omega, fun q hfr g2 e2 => mJ22_init hok q a ⟨_, by subst e2; rw [zSz_o, zSo_o, zup_s], by simp, fun g3 e3 => ⟨_, by subst e3; rw [zSo_o, zup_s], by simp, fun g4 e4 => ⟨_, a, by subst e4; rw [zSo_o, zup_s], rfl, t, [.int mc, .ref b, .int (nI l.length)], mc, hk, ?_, rfl, _, by subst e4; rw [zSo_o, zup_s], by simp, fun g5 e5 => ⟨rfl, ?_⟩⟩⟩⟩⟩
  · subst e4 e3 e2
    rw [zSo_o, zup_k _ _ _ _ h11, zSo_o, zup_k _ _ _ _ h11, zSz_o, zSo_o, zup_k _ _ _ _ h11]
    exact ho
  · subst e5
    refine hK q _ hfr ⟨-1, by rw [zSo_o, zup_s, nI_0]; rfl⟩ ?_ ?_ ?_
    · subst e4 e3 e2
      exact (zFm.so _ _).trans ((zFm.sz _).trans ((zFm.so _ _).trans ((zFm.so _ _).trans (zFm.so _ _))))
    · subst e4 e3 e2
      exact fun y hy => ((((hy.so (t := 11) (a := q) (fs := [.int 0, .int 0, .int 0, .null])).mono (zSz_o _ _)).so.so).so)
    · subst e4 e3 e2
      rfl
theorem sp_hasNext (hok : zOk X) (hL : zL X g t a mc l cap) (ht : 64 ≤ t) {q i : Nat} (hI : zIt g q a i mc) (hi : i ≤ l.length) (h0 : i = l.length → K (some (.int 0)) g) (h1 : i < l.length → K (some (.int 1)) g) : zCal X d yJ22_hasNext wJ22_hasNext [.ref q] g K KX := by
  have hk := zkc_0 ht
  obtain ⟨c1, c2⟩ := hL.len
  obtain ⟨b, f, ho, -⟩ := hL
  obtain ⟨x, hI⟩ := hI
  refine mJ22_hasNext hok q ⟨_, _, hI, rfl, _, a, hI, rfl, t, _, _, hk, ho, rfl, fun c => h0 ((nI_eq (by omega) (by omega)).mp c), fun c => h1 ?_⟩
  have : i ≠ l.length := fun z => c (by rw [z])
  omega
theorem sp_next (hok : zOk X) (hL : zL X g t a mc l cap) (ht : 64 ≤ t) {q i : Nat} (hI : zIt g q a i mc) (hi : i < l.length) (hK : ∀ g' : zG, zIt g' q a (i + 1) mc → zFk 11 g g' → K (some (.ref l[i])) g') : zCal X (d + 1) yJ22_next wJ22_next [.ref q] g K KX := by
  have hk := zkc_0 ht
  have h11 : t ≠ 11 := by omega
  obtain ⟨b, f, ho, hq, hf, h1, h2⟩ := hL
  have hq : zGq g t b = some (cap, f) := by
    rcases hq with hq | ⟨h0, -⟩
    · exact hq
    · omega
  obtain ⟨x, hI⟩ := hI
  refine mJ22_next hok q ⟨⟨11, _, hI, rfl⟩, mJ22_checkForComodification hok q ⟨_, a, hI, rfl, t, _, mc, hk, ho, rfl, _, _, hI, rfl, fun _ => ⟨rfl, _, _, hI, rfl, _, a, hI, rfl, t, _, _, hk, ho, rfl, fun _ => ⟨_, a, hI, rfl, t, _, b, hk, ho, rfl, cap, Or.inl ⟨t, f, hq⟩, fun v hv => ?_⟩, fun c => absurd (nI_lt hi (by omega)) c⟩, fun c => absurd rfl c⟩⟩
  subst hv
  refine ⟨fun _ => ⟨_, hI, by simp, fun g2 e2 => ⟨_, by subst e2; rw [zSo_o, zup_s], by simp, fun g3 e3 => ⟨t, cap, f, by subst e3 e2; exact hq, vp_in_nI (by omega) (by omega), fun r hr => ?_⟩⟩⟩, fun c => absurd (show nI i < nI cap from nI_lt (by omega) (by omega)) c⟩
  subst hr
  rw [nI_clamp (by omega), hf i hi, List.getElem?_eq_getElem hi]
  refine hK g3 ⟨nI i, ?_⟩ ?_
  · subst e3
    rw [zSo_o, zup_s, nI_succ]
    rfl
  · subst e3 e2
    exact (zFk.so _ _).trans (zFk.so _ _)
end ZLS5
