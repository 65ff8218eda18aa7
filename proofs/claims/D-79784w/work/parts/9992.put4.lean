set_option maxRecDepth 100000
/-- the answers rest on the monitor's own places alone -/
theorem zst_cp {fi fi' : Nat → Int32} {fa fa' : Nat → Nat → Int32} {base n : Nat} {R : List Nat} {tab : Nat → Nat → Int32} (h2 : fi' 2 = fi 2) (h5 : fi' 5 = fi 5) (h7 : fa' 7 = fa 7) (h8 : fa' 8 = fa 8) (h10 : fa' 10 = fa 10) (h : ∀ j, 16 ≤ j → j ≤ 19 → ∀ p, p < n → fa' j (base + p) = fa j (base + p)) {p : Nat} (hp : p < n) (e : Nat) : zst fi' fa' base R tab p e = zst fi fa base R tab p e := by
  unfold zst zf1
  rw [h2, h5, h7, h8, h10, h 16 (by omega) (by omega) p hp, h 17 (by omega) (by omega) p hp, h 18 (by omega) (by omega) p hp, h 19 (by omega) (by omega) (p - 1) (by omega)]
theorem zT_cp {fi fi' : Nat → Int32} {fa fa' : Nat → Nat → Int32} {base n : Nat} {R : List Nat} (h2 : fi' 2 = fi 2) (h5 : fi' 5 = fi 5) (h7 : fa' 7 = fa 7) (h8 : fa' 8 = fa 8) (h10 : fa' 10 = fa 10) (h : ∀ j, 16 ≤ j → j ≤ 19 → ∀ p, p < n → fa' j (base + p) = fa j (base + p)) : ∀ k : Nat, k ≤ n → zT fi' fa' base R k = zT fi fa base R k
  | 0, _ => rfl
  | k + 1, hk => by
    funext p e
    show (if p = k then zst fi' fa' base R (zT fi' fa' base R k) p e else zT fi' fa' base R k p e) = (if p = k then zst fi fa base R (zT fi fa base R k) p e else zT fi fa base R k p e)
    rw [zT_cp h2 h5 h7 h8 h10 h k (by omega)]
    by_cases c : p = k
    · rw [if_pos c, if_pos c, zst_cp h2 h5 h7 h8 h10 h (by omega)]
    · rw [if_neg c, if_neg c]
theorem zFd_cp {fi fi' : Nat → Int32} {fa fa' : Nat → Nat → Int32} {i n : Nat} {ids : Int32} {Ls : List Nat} {v : Nat} (h2 : fi' 2 = fi 2) (h5 : fi' 5 = fi 5) (h7 : fa' 7 = fa 7) (h8 : fa' 8 = fa 8) (h9 : fa' 9 = fa 9) (h10 : fa' 10 = fa 10) (h21 : fa' 21 i = fa 21 i) (hn : 0 < n) (h : ∀ j, 16 ≤ j → j ≤ 19 → ∀ p, p < n → fa' j (192 + 24 * i + p) = fa j (192 + 24 * i + p)) : ∀ s : Nat, zFd fi' fa' ids i n Ls s v = zFd fi fa ids i n Ls s v
  | 0 => rfl
  | s + 1 => by
    have eR : zRn fa' ids i Ls s = zRn fa ids i Ls s := by
      unfold zRn zak zfl
      rw [h21, h9]
    have eV : ∀ R e, zVv fi' fa' (192 + 24 * i) R (n - 1) e = zVv fi fa (192 + 24 * i) R (n - 1) e := fun R e => by
      unfold zVv
      rw [zT_cp (n := n) h2 h5 h7 h8 h10 h (n - 1 + 1) (by omega)]
    show (if v ∈ zRn fa' ids i Ls s then zAnd (zFd fi' fa' ids i n Ls s v) (zVv fi' fa' (192 + 24 * i) (zRn fa' ids i Ls s) (n - 1) ((zRn fa' ids i Ls s).idxOf v)) else zFd fi' fa' ids i n Ls s v) = (if v ∈ zRn fa ids i Ls s then zAnd (zFd fi fa ids i n Ls s v) (zVv fi fa (192 + 24 * i) (zRn fa ids i Ls s) (n - 1) ((zRn fa ids i Ls s).idxOf v)) else zFd fi fa ids i n Ls s v)
    rw [eR, eV, zFd_cp h2 h5 h7 h8 h9 h10 h21 hn h s]
theorem zid_cp {fa fa' : Nat → Nat → Int32} (h9 : fa' 9 = fa 9) : ∀ n : Nat, zid fa' n = zid fa n
  | 0 => rfl
  | n + 1 => by
    show zid fa' n ||| (if fa' 9 n = -1 then (0 : Int32) else (1 : Int32) <<< (fa' 9 n &&& 31)) = _
    rw [zid_cp h9 n, h9]
    rfl
theorem zAn_cp {fi fi' : Nat → Int32} {fa fa' : Nat → Nat → Int32} {i n nE : Nat} {Ls : List Nat} (v : Nat) (h2 : fi' 2 = fi 2) (h5 : fi' 5 = fi 5) (h7 : fa' 7 = fa 7) (h8 : fa' 8 = fa 8) (h9 : fa' 9 = fa 9) (h10 : fa' 10 = fa 10) (h21 : fa' 21 i = fa 21 i) (hn : 0 < n) (h : ∀ j, 16 ≤ j → j ≤ 19 → ∀ p, p < n → fa' j (192 + 24 * i + p) = fa j (192 + 24 * i + p)) : zAn fi' fa' i n Ls nE v = zAn fi fa i n Ls nE v := by
  unfold zAn
  rw [zid_cp h9, zFd_cp h2 h5 h7 h8 h9 h10 h21 hn h]
section PU4
variable {X : zX} {x : Nat} {ad fo eo : Nat → Nat} {mo : Nat → Nat → Nat} {c : Nat → Nat × Nat × Nat} {pt : Nat → Nat} {fi : Nat → Int32} {fa : Nat → Nat → Int32} {lg : List Nat} {M P : Nat} {np sz : Nat → Nat} {g g' : zG}
theorem zWj.put (hJ : zWj fo mo M P np sz) (hW : zWd X x ad fo eo mo c pt fi fa lg M P np sz g) {a P' : Nat} {sz' : Nat → Nat} (ha : zFr g a) (hq : zsum sz P < 192) (hsum : zsum sz' P' = zsum sz P + 1) : zWj (fun r => if r = zsum sz P then a else fo r) mo M P' np sz' := by
  obtain ⟨j1, j2, j3, j4⟩ := hJ
  have n7 : ∀ b fs, zGo g 7 b = some fs → b ≠ a := fun b fs e z => by
    rw [z, ha.1 7] at e
    cases e
  have ns : ∀ p, p < zsum sz P → fo p ≠ a := fun p hp => by
    obtain ⟨s, hs⟩ := hW.1.2.2.2.2.2.2.2.2.2 p hp
    exact n7 _ _ hs
  have nm : ∀ i p, i < M → p < np i → fo (192 + 24 * i + p) ≠ a := fun i p hi hp => n7 _ _ ((hW.2 i hi).1.2.2.2.1 p hp)
  refine ⟨j1, j2, fun p q hp hq' h => ?_, fun p i q hp hi hq' h => ?_⟩
  · rw [hsum] at hp hq'
    have h : (if p = zsum sz P then a else fo p) = if q = zsum sz P then a else fo q := h
    by_cases c1 : p = zsum sz P
    · by_cases c2 : q = zsum sz P
      · omega
      · rw [if_pos c1, if_neg c2] at h
        exact absurd h.symm (ns q (by omega))
    · by_cases c2 : q = zsum sz P
      · rw [if_neg c1, if_pos c2] at h
        exact absurd h (ns p (by omega))
      · rw [if_neg c1, if_neg c2] at h
        exact j3 p q (by omega) (by omega) h
  · rw [hsum] at hp
    have h : (if p = zsum sz P then a else fo p) = if 192 + 24 * i + q = zsum sz P then a else fo (192 + 24 * i + q) := h
    rw [if_neg (show ¬ 192 + 24 * i + q = zsum sz P by omega)] at h
    by_cases c1 : p = zsum sz P
    · rw [if_pos c1] at h
      exact nm i q hi hq' h.symm
    · rw [if_neg c1] at h
      exact j4 p i q (by omega) hi hq' h
theorem zPv_put (hV : zPv fi fa lg M P np sz) {w s : Nat} {n b : Int32} (hw : w < 12) (hay : zay w = s) (hs : s ≤ P) (h24 : zsS sz P s ≤ 24) (h8 : P + 1 - s ≤ 8) (h1 : w = 1 → (n = 0 ∨ n = 1 ∨ n = 2) ∧ -1000 ≤ b.toInt ∧ b.toInt ≤ 1000) (h2 : w ≠ 1 → b = -1 ∨ ∃ k : Nat, k ≤ 1000 ∧ b = nI k) : zPv (zp1 (va_up fi 34 0) (zsum sz P) (P + 1 - s)) (zp2 fa (zsum sz P) (nI w) n b (nI (zsS sz P s)) (P - s)) lg M (P + 1 - s) np (zsu sz (P - s) (zsS sz P s)) := by
  obtain ⟨b1, b2, b3, b4, b5, b6, b7, b8, b9, b10, b11, b12, b13⟩ := hV
  have hS' := zSk_put (n := n) (b := b) b4 hw hay hs h24 h8
  have hs2 : s ≤ 2 := by
    rw [← hay]
    unfold zay
    split
    · omega
    · split <;> omega
  have hk : P + 1 - s = P - s + 1 := by omega
  have hsum : zsum (zsu sz (P - s) (zsS sz P s)) (P + 1 - s) = zsum sz P + 1 := by
    rw [hk, zsum_u1, zsum_s (sz := sz) hs2 hs]
  have hq : zsum sz P < 192 := by
    have := hS'.le
    omega
  obtain ⟨f16, f17, f18, f19, -⟩ := zp2_16 (fa := fa) (zsum sz P) (nI w) n b (nI (zsS sz P s)) (P - s)
  have oth : ∀ j, j < 14 ∨ 19 < j → zp2 fa (zsum sz P) (nI w) n b (nI (zsS sz P s)) (P - s) j = fa j := fun j hj => by
    unfold zp2 zp3
    rw [va_up_ne _ _ (by omega), va_up_ne _ _ (by omega), va_up_ne _ _ (by omega), va_up_ne _ _ (by omega), va_up_ne _ _ (by omega)]
  have w1 : (nI w : Int32) = 1 ↔ w = 1 := nI_eq (b := 1) (by omega) (by omega)
  have old : ∀ r, r ≠ zsum sz P → zp2 fa (zsum sz P) (nI w) n b (nI (zsS sz P s)) (P - s) 16 r = fa 16 r ∧ zp2 fa (zsum sz P) (nI w) n b (nI (zsS sz P s)) (P - s) 17 r = fa 17 r ∧ zp2 fa (zsum sz P) (nI w) n b (nI (zsS sz P s)) (P - s) 18 r = fa 18 r ∧ zp2 fa (zsum sz P) (nI w) n b (nI (zsS sz P s)) (P - s) 19 r = fa 19 r := fun r hr => ⟨by rw [f16, pk_un hr], by rw [f17, pk_un hr], by rw [f18, pk_un hr], by rw [f19, pk_un hr]⟩
  have mon : ∀ i, i < M → ∀ j, 16 ≤ j → j ≤ 19 → ∀ p, p < np i → zp2 fa (zsum sz P) (nI w) n b (nI (zsS sz P s)) (P - s) j (192 + 24 * i + p) = fa j (192 + 24 * i + p) := fun i hi j j1 j2 p hp => by
    obtain ⟨o1, o2, o3, o4⟩ := old (192 + 24 * i + p) (by omega)
    have : j = 16 ∨ j = 17 ∨ j = 18 ∨ j = 19 := by omega
    rcases this with rfl | rfl | rfl | rfl
    · exact o1
    · exact o2
    · exact o3
    · exact o4
  refine ⟨b1, b2, ?_, hS', b5, b6, b7, fun i hi => ?_, ?_, ?_, b11, b12, fun i v hi hv => ?_⟩
  · obtain ⟨m1, m2, m3⟩ := b3
    refine ⟨m1, m2, fun i hi => ?_⟩
    obtain ⟨q1, q2, q3, q4⟩ := m3 i hi
    exact ⟨q1, q2, q3.cg (fun p hp => mon i hi 16 (by omega) (by omega) p hp) (fun p hp => mon i hi 19 (by omega) (by omega) p hp), q4⟩
  · obtain ⟨⟨c1, c2, c3, c4⟩, c5⟩ := b8 i hi
    refine ⟨⟨c1.cg (fun p hp => mon i hi 16 (by omega) (by omega) p hp) (fun p hp => mon i hi 19 (by omega) (by omega) p hp), c2, c3, fun p hp => ?_⟩, fun p hp => ?_⟩
    · rw [mon i hi 16 (by omega) (by omega) p hp, mon i hi 17 (by omega) (by omega) p hp, mon i hi 18 (by omega) (by omega) p hp]
      exact c4 p hp
    · rw [mon i hi 16 (by omega) (by omega) p hp, mon i hi 18 (by omega) (by omega) p hp]
      exact c5 p hp
  · rw [hsum]
    intro r hr
    rw [Nat.zero_add]
    by_cases c : r = zsum sz P
    · rw [c, f16, f18, pk_us, pk_us]
      exact fun z => h2 (fun z' => z (w1.mpr z'))
    · rw [(old r c).1, (old r c).2.2.1]
      have := b9 r (by omega)
      rw [Nat.zero_add] at this
      exact this
  · rw [hsum]
    intro r hr
    by_cases c : r = zsum sz P
    · rw [c, f16, f17, f18, pk_us, pk_us, pk_us]
      exact fun z => h1 (w1.mp z)
    · rw [(old r c).1, (old r c).2.1, (old r c).2.2.1]
      exact b10 r (by omega)
  · rw [oth 25 (by omega), b13 i v hi hv]
    exact (zAn_cp (fi := fi) (fi' := zp1 (va_up fi 34 0) (zsum sz P) (P + 1 - s)) v rfl rfl (oth 7 (by omega)) (oth 8 (by omega)) (oth 9 (by omega)) (oth 10 (by omega)) (by rw [oth 21 (by omega)]) (b3.2.2 i hi).2.1 (mon i hi)).symm
end PU4
