set_option maxRecDepth 100000
section FDS3
variable {X : zX} {d : Nat} {g : zG} {K : Option Value → zG → Prop} {KX : String → zG → Prop} {m : Nat} {fi : Nat → Int32} {ad : Nat → Nat} {fa : Nat → Nat → Int32} {R Ls : List Nat}
theorem mp_finds_s (hok : zOk X) (hL : zLn fi fa Ls) {i n : Nat} (hi : i < 6) (hn : n ≤ 24) (hn0 : 0 < n) (hw : zwf fa (192 + 24 * i) n) (hends : fa 23 i = nI n) {E : zM} (C : zC X (d + 4) E RX3 cX3_finds 7 none "finds") (hQ : zQ X E K KX) : ∀ (c s : Nat) (g : zG) (fi' : Nat → Int32) (fa' : Nat → Nat → Int32), s + c = 10 → zMd g m fi' ad fa' → zSf fi fa fi' fa' → (∀ v ∈ Ls, fa' 33 v = zFd fi fa (fi 31) i n Ls s v) →
    (∀ (g' : zG) (fi'' : Nat → Int32) (fa'' : Nat → Nat → Int32), zMd g' m fi'' ad fa'' → zNm g g' → zSf fi fa fi'' fa'' → (∀ v ∈ Ls, fa'' 33 v = zFd fi fa (fi 31) i n Ls 10 v) → K none g') →
    GW X E 7 g 39 [(0, .ref m), (1, .int (nI i)), (2, .int (nI (n - 1))), (3, .int (nI s))] []
  | 0, s, g, fi', fa', hc, hM, hS, hF, hK => by
    have : s = 10 := by omega
    subst this
    exact bX3_finds_39 C hQ g m _ _ _ ⟨fun _ => hK g fi' fa' hM (zNm.rf g) hS hF, fun z => absurd (show (10 : Int32) ≤ nI 10 by decide) z⟩
  | c + 1, s, g, fi', fa', hc, hM, hS, hF, hK => by
    have hL0 := hL
    obtain ⟨l1, l2, l3, l4, l5⟩ := hL
    have h21 : fa' 21 = fa 21 := hS.2 21 (by decide) (by decide) (by decide)
    have hs0 : nI s = 0 ↔ s = 0 := by
      rw [← nI_0]
      exact nI_eq (by omega) (by omega)
    have no : zak fa (fi 31) i s = false → ∀ g1 : zG, g1 = zSo g 3 m ((zMf fi' ad).set 27 (.int 0)) → GW X E 7 g1 93 [(0, .ref m), (1, .int (nI i)), (2, .int (nI (n - 1))), (3, .int (nI s)), (4, .int 0), (5, .int 0)] [] := by
      intro hz g1 e1
      have hM1 := hM.si e1 (by decide)
      have hR : zRn fa (fi 31) i Ls s = [] := by
        unfold zRn
        rw [hz]
        rfl
      have fin : GW X E 7 g1 226 [(0, .ref m), (1, .int (nI i)), (2, .int (nI (n - 1))), (3, .int (nI s)), (5, .int 0)] [] := by
        rw [show (0 : Int32) = nI 0 from nI_0.symm]
        refine mp_finds_j hok hn hn0 (i := i) (R := []) List.nodup_nil C hQ (o := fa' 33) (T := fun _ => 0) 0 0 g1 fa' rfl hM1 ⟨by rw [va_up_self, List.length_nil, nI_0], by simp, fun k hk => absurd hk (Nat.not_lt_zero k)⟩ (fun j hj => absurd hj (Nat.not_lt_zero j)) (fun j hj => absurd hj (Nat.not_lt_zero j)) (fun v hv => rfl) (fun g' fa'' a1 a2 a3 a4 => ?_)
        refine mp_finds_s hok hL0 hi hn hn0 hw hends C hQ c (s + 1) g' _ fa'' (by omega) a1 ((hS.si 0).trans ⟨fun _ _ => rfl, fun j _ _ h => a3 j h⟩) (fun v hv => ?_) (fun g'' fi3 fa3 b1 b2 b3 b4 => hK g'' fi3 fa3 b1 (((zNm.si e1).trans a2).trans b2) b3 b4)
        rw [a4 v, if_neg (by simp)]
        show _ = (if v ∈ zRn fa (fi 31) i Ls s then _ else zFd fi fa (fi 31) i n Ls s v)
        rw [hR, if_neg (by simp)]
        exact hF v hv
      exact bX3_finds_93 (d := d + 3) C hQ g1 m _ _ _ _ _ ⟨_, _, hM1.1, rfl, fun _ => ⟨fun _ => fin, fun z => absurd rfl z⟩, fun _ => ⟨fun _ => ⟨fun _ => fin, fun z => absurd rfl z⟩, fun z => absurd rfl z⟩⟩
    have yes : zak fa (fi 31) i s = true → ∀ g1 : zG, g1 = zSo g 3 m ((zMf fi' ad).set 27 (.int 0)) → GW X E 7 g1 93 [(0, .ref m), (1, .int (nI i)), (2, .int (nI (n - 1))), (3, .int (nI s)), (4, .int 1), (5, .int 0)] [] := by
      intro hz g1 e1
      have hM1 := hM.si e1 (by decide)
      have hR : zRn fa (fi 31) i Ls s = Ls.filter (zfl fa i s) := by
        unfold zRn
        rw [if_pos hz]
      have hnd : (Ls.filter (zfl fa i s)).Nodup := List.Pairwise.filter _ l3
      refine mp_finds_r hok hL0 hi hn hn0 hw hends (by omega) C hQ Ls [] g1 _ fa' rfl hM1 (hS.si 0) (by rw [va_up_self]; rfl) (fun j hj => absurd hj (Nat.not_lt_zero j)) (fun g2 fi2 fa2 a1 a2 a3 a4 a5 a6 => ?_)
      refine mp_finds_j hok hn hn0 (i := i) hnd C hQ (o := fa' 33) (T := fun j => zVv fi fa (192 + 24 * i) (Ls.filter (zfl fa i s)) (n - 1) j) _ 0 g2 fa2 (Nat.zero_add _).symm a1 a4 a6 (fun j hj => by rw [a5, if_neg (Nat.not_lt_zero j)]) (fun v hv => by rw [a5]) (fun g' fa'' b1 b2 b3 b4 => ?_)
      refine mp_finds_s hok hL0 hi hn hn0 hw hends C hQ c (s + 1) g' fi2 fa'' (by omega) b1 (a3.trans ⟨fun _ _ => rfl, fun j _ _ h => b3 j h⟩) (fun v hv => ?_) (fun g'' fi3 fa3 c1 c2 c3 c4 => hK g'' fi3 fa3 c1 ((((zNm.si e1).trans a2).trans b2).trans c2) c3 c4)
      rw [b4 v, hF v hv]
      show _ = (if v ∈ zRn fa (fi 31) i Ls s then zAnd (zFd fi fa (fi 31) i n Ls s v) (zVv fi fa (192 + 24 * i) (zRn fa (fi 31) i Ls s) (n - 1) ((zRn fa (fi 31) i Ls s).idxOf v)) else zFd fi fa (fi 31) i n Ls s v)
      rw [hR]
    refine bX3_finds_39 C hQ g m _ _ _ ⟨fun z => absurd z (nI_ge (a := s) (b := 10) (by omega) (by omega)), fun _ => ⟨_, _, hM.1, rfl, _, _, hM.2 21 (by decide), (zin 6 rfl (by omega) (by omega)), fun w hw2 => ?_⟩⟩
    rw [nI_clamp (by omega), h21] at hw2
    subst hw2
    refine ⟨fun z => ⟨fun z2 => ⟨_, hM.1, by simp [zMf], no ?_⟩, fun z2 => ⟨_, hM.1, by simp [zMf], yes ?_⟩⟩, fun z => ⟨_, _, hM.1, rfl, fun z2 => ⟨_, hM.1, by simp [zMf], no ?_⟩, fun z2 => ⟨_, hM.1, by simp [zMf], yes ?_⟩⟩⟩
    · unfold zak
      rw [if_pos z]
      simpa [hs0] using z2
    · unfold zak
      rw [if_pos z]
      simpa [hs0] using z2
    · rw [hS.1 31 (by decide)] at z2
      unfold zak
      rw [if_neg z]
      simpa using z2
    · rw [hS.1 31 (by decide)] at z2
      unfold zak
      rw [if_neg z]
      simpa using z2
/-- finds: what monitor i tells of all events of the line -/
theorem mp_finds (hok : zOk X) (hM : zMd g m fi ad fa) (hL : zLn fi fa Ls) {i n : Nat} (hi : i < 6) (hn : n ≤ 24) (hn0 : 0 < n) (hw : zwf fa (192 + 24 * i) n) (hends : fa 23 i = nI n)
    (hK : ∀ (g' : zG) (fi' : Nat → Int32) (fa' : Nat → Nat → Int32), zMd g' m fi' ad fa' → zNm g g' → zSf fi fa fi' fa' → (∀ v ∈ Ls, fa' 33 v = zFd fi fa (fi 31) i n Ls 10 v) → K none g') : zCal X (d + 4) yX3_finds wX3_finds [.ref m, .int (nI i)] g K KX := by
  refine mX3_finds (d := d + 3) hok m _ (fun E C hQ => ⟨_, _, hM.1, rfl, _, _, hM.2 23 (by decide), (zin 6 rfl (by omega) (by omega)), fun v hv => ?_⟩)
  rw [nI_clamp (by omega), hends] at hv
  subst hv
  obtain ⟨n', rfl⟩ : ∃ n', n = n' + 1 := ⟨n - 1, by omega⟩
  rw [nI_pred, show (0 : Int32) = nI 0 from nI_0.symm]
  refine mp_finds_1 hL C hQ Ls.length 0 g fa (Nat.zero_add _).symm hM (fun _ _ => rfl) (fun j hj => absurd hj (Nat.not_lt_zero j)) (fun g' fa' a1 a2 a3 a4 => ?_)
  exact mp_finds_s hok hL hi hn hn0 hw hends C hQ 10 0 g' fi fa' rfl a1 ⟨fun _ _ => rfl, fun j _ _ h => a3 j h⟩ a4 (fun g'' fi3 fa3 b1 b2 b3 b4 => hK g'' fi3 fa3 b1 (a2.trans b2) b3 b4)
end FDS3
