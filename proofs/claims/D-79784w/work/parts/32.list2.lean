set_option maxRecDepth 100000
theorem zob.mono {g g' : zG} (h : zGo g' = zGo g) {y : Nat} (hy : zob g y) : zob g' y := by
  unfold zob zIs at hy ⊢
  rw [h]
  exact hy
theorem zob.so {g : zG} {t a : Nat} {fs : List Value} {y : Nat} (hy : zob g y) : zob (zSo g t a fs) y := by
  obtain ⟨ci, h1, k, fs', h2, h3⟩ := hy
  by_cases hc : k = t ∧ y = a
  · exact ⟨ci, h1, k, fs, by rw [zSo_o, hc.1, hc.2, zup_s], h3⟩
  · exact ⟨ci, h1, k, fs', by rw [zSo_o]; unfold zup; rw [if_neg hc]; exact h2, h3⟩
theorem zcpy0 {α : Type} (f h : Nat → α) (n i : Nat) (hi : i < n) : va_cpy f h 0 0 n i = f i := by
  unfold va_cpy
  rw [if_pos (by omega)]
  congr 1
  omega
section ZLS2
variable {X : zX} {d : Nat} {g : zG} {K : Option Value → zG → Prop} {KX : String → zG → Prop} {t a : Nat} {mc : Int32} {l : List Nat} {cap : Nat}
theorem sp_copyOf (hok : zOk X) (ht : 64 ≤ t) (t2 : Nat) (ht2 : 64 ≤ t2) {b n : Nat} {f : Nat → Option Nat} (hq : zGq g t b = some (cap, f) ∨ cap = 0 ∧ (b = ze1 X ∨ b = ze2 X)) (hc : cap ≤ 10000) (hn : n ≤ 10000) (hz : zGz g + 1 + n ≤ zz X) (hob : ∀ i : Nat, i < cap → i < n → ∀ y : Nat, f i = some y → zob g y)
    (hK : ∀ (q : Nat) (g' : zG) (f' : Nat → Option Nat), zFr g q → zGq g' t2 q = some (n, f') → (∀ i : Nat, i < cap → i < n → f' i = f i) → zFm t2 g g' → zGo g' = zGo g → zGz g' = zGz g + 1 + n → K (some (.ref q)) g') : zCal X (d + 2) yJ5_copyOf wJ5_copyOf [.ref b, .int (nI n)] g K KX := by
  have ht' : ¬ t < 64 := by omega
  have ht2' : ¬ t2 < 64 := by omega
  have hn' : (nI n).toNatClampNeg = n := nI_clamp (by omega)
  refine mJ5_copyOf hok _ _ ⟨t, cap, f, ?_, mJ5_copyOf_2 hok _ _ _ ⟨fun c => absurd rfl c, fun _ => ?_⟩⟩
  · rcases hq with hq | ⟨-, hq⟩
    · exact Or.inl ⟨hq, ht'⟩
    · exact Or.inr hq
  · rw [hn']
    refine ⟨t2, ht2', nI_pos (by omega), by omega, hz, fun q hfr g2 e2 => ?_⟩
    subst e2
    have hqb : zGq g t b = some (cap, f) → b ≠ q := fun h e => by
      have := hfr.2.2.1 t
      rw [← e, h] at this
      cases this
    have h2 : zGq g t b = some (cap, f) → zGq (zSz (zSq g t2 q n fun _ => none) (zGz g + 1 + n)) t b = some (cap, f) := fun h => by
      simp only [zSo_o, zSo_i, zSo_q, zSo_j, zSo_z, zSi_o, zSi_i, zSi_q, zSi_j, zSi_z, zSq_o, zSq_i, zSq_q, zSq_j, zSq_z, zSj_o, zSj_i, zSj_q, zSj_j, zSj_z, zSz_o, zSz_i, zSz_q, zSz_j, zSz_z]
      rw [zup_a _ _ _ _ (hqb h)]
      exact h
    have hmin : (if nI n < nI cap then nI n else nI cap) = nI (if n < cap then n else cap) := by
      by_cases c : n < cap
      · rw [if_pos c, if_pos (nI_lt c (by omega))]
      · rw [if_neg c, if_neg (nI_nlt (by omega) (by omega))]
    refine ⟨cap, ?_, fun v hv => ?_⟩
    · rcases hq with hq | ⟨rfl, hq⟩
      · exact Or.inl ⟨t, f, h2 hq⟩
      · exact Or.inr (Or.inr ⟨rfl, hq⟩)
    · subst hv
      refine sp_min hok ⟨_, rfl, ?_⟩
      rw [show Int32.ofNat cap = nI cap from rfl, hmin]
      generalize hmm : (if n < cap then n else cap) = mm
      have hm1 : mm ≤ n ∧ mm ≤ cap := by subst hmm; split <;> omega
      have hm2 : ∀ i, i < cap → i < n → i < mm := by subst hmm; intro i h1 h2; split <;> omega
      have e0 : (0 : Int32).toNatClampNeg = 0 := by decide
      have em : (nI mm).toNatClampNeg = mm := nI_clamp (by omega)
      refine ⟨t, t2, cap, n, f, fun _ => none, ?_, by simp only [zSo_o, zSo_i, zSo_q, zSo_j, zSo_z, zSi_o, zSi_i, zSi_q, zSi_j, zSi_z, zSq_o, zSq_i, zSq_q, zSq_j, zSq_z, zSj_o, zSj_i, zSj_q, zSj_j, zSj_z, zSz_o, zSz_i, zSz_q, zSz_j, zSz_z]; rw [zup_s], ht2', by decide, by decide, nI_pos (by omega), by rw [e0, em]; omega, by rw [e0, em]; omega, ?_, fun g3 e3 => ?_⟩
      · rcases hq with hq | ⟨h0, hq⟩
        · exact Or.inl ⟨h2 hq, ht'⟩
        · exact Or.inr ⟨h0, hq⟩
      · rw [em, e0]
        intro i hi y hy
        rw [Nat.zero_add] at hy
        exact zob.mono rfl (hob i (by omega) (by omega) y hy)
      · rw [e0, em] at e3
        subst e3
        refine ⟨_, rfl, hK q _ _ hfr (by simp only [zSo_o, zSo_i, zSo_q, zSo_j, zSo_z, zSi_o, zSi_i, zSi_q, zSi_j, zSi_z, zSq_o, zSq_i, zSq_q, zSq_j, zSq_z, zSj_o, zSj_i, zSj_q, zSj_j, zSj_z, zSz_o, zSz_i, zSz_q, zSz_j, zSz_z]; rw [zup_s]) (fun i h1 h2 => zcpy0 _ _ _ _ (hm2 i h1 h2)) ?_ rfl rfl⟩
        exact (zFm.sq _ _ _).trans ((zFm.sz _).trans (zFm.sq _ _ _))
/-- grow: the list is full -/
theorem sp_grow (hok : zOk X) (ht : 64 ≤ t) {b : Nat} {f : Nat → Option Nat} {n : Nat} (ho : zGo g t a = some [.int mc, .ref b, .int (nI n)]) (hq : zGq g t b = some (n, f) ∨ n = 0 ∧ (b = ze1 X ∨ b = ze2 X)) (hn : n ≤ 200) (hz : zGz g + 400 ≤ zz X) (hob : ∀ i : Nat, i < n → ∀ y : Nat, f i = some y → zob g y)
    (hK : ∀ (q : Nat) (g' : zG) (f' : Nat → Option Nat) (cap' : Nat), zGo g' t a = some [.int mc, .ref q, .int (nI n)] → zGq g' t q = some (cap', f') → n < cap' → cap' ≤ 400 → (∀ i : Nat, i < n → f' i = f i) → zFm t g g' → (∀ y, zob g y → zob g' y) → zGz g' + zpot cap' ≤ zGz g + zpot n → K (some (.ref q)) g') : zCal X (d + 4) yJ2_grow wJ2_grow [.ref a] g K KX := by
  have hk := zkc_0 ht
  have ht' : ¬ t < 64 := by omega
  refine mJ2_grow hok a ⟨t, _, _, hk, ho, rfl, ⟨t, _, ho, hk⟩, ?_⟩
  have key : ∀ E : zM, zC X (d + 3) E RJ2 cJ2_grow_2 4 (some (.array (.object "java/lang/Object"))) "grow" → zQ X E (fun r g_4 => ∃ a_6, r = some (.ref a_6) ∧ K (some (.ref a_6)) g_4) KX → GW X E 4 g 20 [(0, .ref a), (1, .int (nI n + 1)), (2, .int (Int32.ofNat n))] [] := by
    intro E C hQ
    refine bJ2_grow_2_20 (d := d + 2) C hQ g a _ _ ?_
    have e1 : nI n + 1 - Int32.ofNat n = nI 1 := by
      rw [nI_1]
      have := pk_sub (a := n + 1) (b := n) (by omega)
      rw [Nat.add_sub_cancel_left] at this
      exact this
    have e2 : Int32.ofNat n >>> ((1 : Int32) &&& 31) = nI (n / 2) := by
      have k := pk_shrN (n := n) (by omega) ((1 : Int32) &&& 31) 1 (by decide)
      rw [Nat.pow_one] at k
      exact k
    rw [e1, e2]
    refine sp_newLength hok (by omega) (by omega) (by omega) (Or.inl (by omega)) ⟨_, rfl, ?_⟩
    generalize hdd : (if 1 < n / 2 then n / 2 else 1) = dd
    have hdd2 : 1 ≤ dd ∧ dd ≤ 1 + n / 2 ∧ (n / 2 ≤ dd) := by subst hdd; split <;> omega
    refine ⟨t, _, _, hk, ho, rfl, sp_copyOf hok ht t ht hq (by omega) (by omega) (by omega) (fun i h1 _ y hy => hob i h1 y hy) (fun q g' f' hfr h1 h2 h3 h4 h5 => ?_)⟩
    refine ⟨_, rfl, t, _, hk, by rw [h4]; exact ho, by simp, fun g2 e2 => ?_⟩
    subst e2
    refine ⟨_, rfl, hK q _ f' (n + dd) (by rw [zSo_o, zup_s]; rfl) (by rw [zSo_q]; exact h1) (by omega) (by omega) (fun i hi => h2 i hi (by omega)) (h3.trans (zFm.so _ _)) (fun y hy => (hy.mono h4).so) ?_⟩
    show zGz g' + _ ≤ _
    rw [h5]
    unfold zpot
    omega
  refine mJ2_grow_2 hok a _ (fun E C hQ => ⟨t, _, _, hk, ho, rfl, n, ?_, fun v hv => ?_⟩)
  · rcases hq with hq | ⟨h0, hq⟩
    · exact Or.inl ⟨t, f, hq⟩
    · exact Or.inr (Or.inr ⟨h0, hq⟩)
  · subst hv
    refine ⟨fun _ => key E C hQ, fun c => ⟨t, _, _, hk, ho, rfl, fun e => ?_, fun _ => key E C hQ⟩⟩
    have hn0 : n = 0 := by
      by_cases h : n = 0
      · exact h
      · exact absurd (show (0 : Int32) < Int32.ofNat n from by rw [← nI_0]; exact nI_lt (by omega) (by omega)) c
    subst hn0
    refine sp_max hok ⟨_, rfl, t, ht', ?_⟩
    rw [show (if (10 : Int32) < nI 0 + 1 then nI 0 + 1 else 10) = nI 10 by decide, show (nI 10).toNatClampNeg = 10 by decide]
    refine ⟨by decide, by decide, by omega, fun q hfr g2 e2 => ?_⟩
    subst e2
    refine ⟨t, _, hk, ho, by simp, fun g3 e3 => ?_⟩
    subst e3
    refine ⟨_, rfl, hK q _ (fun _ => none) 10 (by rw [zSo_o, zup_s]; rfl) (by simp only [zSo_o, zSo_i, zSo_q, zSo_j, zSo_z, zSi_o, zSi_i, zSi_q, zSi_j, zSi_z, zSq_o, zSq_i, zSq_q, zSq_j, zSq_z, zSj_o, zSj_i, zSj_q, zSj_j, zSj_z, zSz_o, zSz_i, zSz_q, zSz_j, zSz_z]; rw [zup_s]) (by omega) (by omega) (fun i hi => absurd hi (by omega)) ((zFm.sq _ _ _).trans ((zFm.sz _).trans (zFm.so _ _))) (fun y hy => (zob.mono (g' := zSz (zSq g t q 10 fun _ => none) (zGz g + 1 + 10)) rfl hy).so) ?_⟩
    simp only [zSo_o, zSo_i, zSo_q, zSo_j, zSo_z, zSi_o, zSi_i, zSi_q, zSi_j, zSi_z, zSq_o, zSq_i, zSq_q, zSq_j, zSq_z, zSj_o, zSj_i, zSj_q, zSj_j, zSj_z, zSz_o, zSz_i, zSz_q, zSz_j, zSz_z]
    unfold zpot
    omega
/-- add at the end -/
theorem sp_add (hok : zOk X) (hL : zL X g t a mc l cap) (ht : 64 ≤ t) {x : Nat} (hx : zob g x) (hob : ∀ y ∈ l, zob g y) (hlen : l.length ≤ 200) (hz : zGz g + 400 ≤ zz X)
    (hK : ∀ (g' : zG) (cap' : Nat), zL X g' t a (mc + 1) (l ++ [x]) cap' → zFm t g g' → (∀ y, zob g y → zob g' y) → zGz g' + zpot cap' ≤ zGz g + zpot cap → K (some (.int 1)) g') : zCal X (d + 6) yJ2_add wJ2_add [.ref a, .ref x] g K KX := by
  have hk := zkc_0 ht
  have ht' : ¬ t < 64 := by omega
  obtain ⟨b, f, ho, hq, hf, h1, h2⟩ := hL
  refine mJ2_add (d := d + 5) hok a x ⟨t, _, mc, hk, ho, rfl, t, _, hk, ho, by simp, fun g2 e2 => ?_⟩
  have o2 : zGo g2 t a = some [.int (mc + 1), .ref b, .int (nI l.length)] := by
    subst e2
    rw [zSo_o, zup_s]
    rfl
  have q2 : zGq g2 = zGq g := by
    subst e2
    rfl
  have z2 : zGz g2 = zGz g := by
    subst e2
    rfl
  have F2 : zFm t g g2 := by
    subst e2
    exact zFm.so _ _
  have B2 : ∀ y, zob g y → zob g2 y := by
    subst e2
    exact fun y hy => hy.so
  clear e2
  refine ⟨t, _, b, hk, o2, rfl, t, _, _, hk, o2, rfl, ⟨t, _, o2, hk⟩, ?_⟩
  have fin : ∀ (b' : Nat) (g3 : zG) (f' : Nat → Option Nat) (cap' : Nat), zGo g3 t a = some [.int (mc + 1), .ref b', .int (nI l.length)] → zGq g3 t b' = some (cap', f') → l.length < cap' → cap' ≤ 10000 → (∀ i, i < l.length → f' i = l[i]?) → zFm t g g3 → (∀ y, zob g y → zob g3 y) → zGz g3 + zpot cap' ≤ zGz g + zpot cap →
      ∃ (t_3 n_4 : Nat) (f_5 : Nat → Option Nat), zGq g3 t_3 b' = some (n_4, f_5) ∧ ¬ t_3 < 64 ∧ vp_in (nI l.length) n_4 ∧ zob g3 x ∧ ∀ g_6 : zG, g_6 = zSq g3 t_3 b' n_4 (va_up f_5 (nI l.length).toNatClampNeg (some x)) → ∃ (k_9 : Nat) (fs_7 : List Value), zkc k_9 = 0 ∧ zGo g_6 k_9 a = some fs_7 ∧ 2 < fs_7.length ∧ ∀ g_8 : zG, g_8 = zSo g_6 k_9 a (fs_7.set 2 (.int (nI l.length + 1))) → (none : Option Value) = none ∧ K (some (.int 1)) g_8 := by
    intro b' g3 f' cap' o3 q3 c1 c2 v3 F3 B3 z3
    refine ⟨t, cap', f', q3, ht', vp_in_nI c1 (by omega), B3 x hx, fun g4 e4 => ?_⟩
    subst e4
    refine ⟨t, _, hk, by rw [zSq_o]; exact o3, by simp, fun g5 e5 => ?_⟩
    subst e5
    refine ⟨rfl, hK _ cap' ⟨b', va_up f' l.length (some x), ?_, Or.inl ?_, ?_, ?_, c2⟩ (F3.trans ((zFm.sq _ _ _).trans (zFm.so _ _))) (fun y hy => ((B3 y hy).mono (zSq_o _ _ _ _ _)).so) z3⟩
    · rw [zSo_o, zup_s, List.length_append, List.length_singleton, ← nI_succ]
      rfl
    · simp only [zSo_o, zSo_i, zSo_q, zSo_j, zSo_z, zSi_o, zSi_i, zSi_q, zSi_j, zSi_z, zSq_o, zSq_i, zSq_q, zSq_j, zSq_z, zSj_o, zSj_i, zSj_q, zSj_j, zSj_z, zSz_o, zSz_i, zSz_q, zSz_j, zSz_z]
      rw [zup_s, nI_clamp (by omega)]
    · intro i hi
      rw [List.length_append, List.length_singleton] at hi
      unfold va_up
      by_cases c : i = l.length
      · rw [if_pos c, c, List.getElem?_append_right (Nat.le_refl _), Nat.sub_self]
        rfl
      · rw [if_neg c, List.getElem?_append_left (by omega)]
        exact v3 i (by omega)
    · rw [List.length_append, List.length_singleton]
      omega
  refine mJ2_add_2 hok a x b (nI l.length) ⟨cap, ?_, fun v hv => ?_⟩
  · rcases hq with hq | ⟨h0, hq⟩
    · exact Or.inl ⟨t, f, by rw [q2]; exact hq⟩
    · exact Or.inr (Or.inr ⟨h0, hq⟩)
  subst hv
  refine ⟨fun c => ?_, fun c => ?_⟩
  · have c1 : l.length ≠ cap := fun e => c (by rw [e]; rfl)
    rcases hq with hq | ⟨h0, hq⟩
    · exact fin b g2 f cap o2 (by rw [q2]; exact hq) (by omega) h2 hf F2 B2 (by rw [z2]; exact Nat.le_refl _)
    · omega
  · have c1 : l.length = cap := (nI_eq (by omega) (by omega)).mp c
    refine ⟨⟨t, _, o2, hk⟩, sp_grow hok ht o2 (n := l.length) (f := f) ?_ hlen (by rw [z2]; exact hz) ?_ ?_⟩
    · rw [q2, c1]
      exact hq
    · intro i hi y hy
      rw [hf i hi] at hy
      exact B2 y (hob y (List.mem_of_getElem? hy))
    · intro q g' f' cap' p1 p2 p3 p4 p5 p6 p7 p8
      exact ⟨_, rfl, fin q g' f' cap' p1 p2 p3 (by omega) (fun i hi => (p5 i hi).trans (hf i hi)) (F2.trans p6) (fun y hy => p7 y (B2 y hy)) (by rw [c1] at p8; omega)⟩
end ZLS2
