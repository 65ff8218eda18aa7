set_option maxRecDepth 100000
section FDS2
variable {X : zX} {d : Nat} {g : zG} {K : Option Value → zG → Prop} {KX : String → zG → Prop} {m : Nat} {fi : Nat → Int32} {ad : Nat → Nat} {fa : Nat → Nat → Int32} {R Ls : List Nat}
theorem zSf.si {fi' : Nat → Int32} {fa' : Nat → Nat → Int32} (h : zSf fi fa fi' fa') (v : Int32) : zSf fi fa (va_up fi' 27 v) fa' := ⟨fun j hj => by rw [va_up_ne _ _ hj]; exact h.1 j hj, h.2⟩
theorem zSf.sa {fi' : Nat → Int32} {fa' : Nat → Nat → Int32} (h : zSf fi fa fi' fa') {q : Nat} (hq : q = 28 ∨ q = 32 ∨ q = 33) (f : Nat → Int32) : zSf fi fa fi' (va_up fa' q f) := ⟨h.1, fun j h1 h2 h3 => by rw [va_up_ne _ _ (by omega)]; exact h.2 j h1 h2 h3⟩
/-- the row of a slice is laid, and all is told of it -/
theorem mp_finds_r (hok : zOk X) (hL : zLn fi fa Ls) {i n s : Nat} (hi : i < 6) (hn : n ≤ 24) (hn0 : 0 < n) (hw : zwf fa (192 + 24 * i) n) (hends : fa 23 i = nI n) (hs : s < 10) {E : zM} (C : zC X (d + 4) E RX3 cX3_finds 7 none "finds") (hQ : zQ X E K KX) : ∀ (B A : List Nat) (g : zG) (fi' : Nat → Int32) (fa' : Nat → Nat → Int32), Ls = A ++ B → zMd g m fi' ad fa' → zSf fi fa fi' fa' → fi' 27 = nI (A.filter (zfl fa i s)).length → (∀ j, j < (A.filter (zfl fa i s)).length → fa' 28 j = nI (zr (A.filter (zfl fa i s)) j)) →
    (∀ (g' : zG) (fi'' : Nat → Int32) (fa'' : Nat → Nat → Int32), zMd g' m fi'' ad fa'' → zNm g g' → zSf fi fa fi'' fa'' → zRw fi'' fa'' (Ls.filter (zfl fa i s)) → fa'' 33 = fa' 33 → (∀ j, j < (Ls.filter (zfl fa i s)).length → ztb fa'' (n - 1) j = zVv fi fa (192 + 24 * i) (Ls.filter (zfl fa i s)) (n - 1) j) → GW X E 7 g' 226 [(0, .ref m), (1, .int (nI i)), (2, .int (nI (n - 1))), (3, .int (nI s)), (5, .int (nI 0))] []) →
    GW X E 7 g 93 [(0, .ref m), (1, .int (nI i)), (2, .int (nI (n - 1))), (3, .int (nI s)), (4, .int 1), (5, .int (nI A.length))] []
  | [], A, g, fi', fa', hc, hM, hS, h27, h28, hK => by
    obtain ⟨l1, l2, l3, l4, l5⟩ := hL
    rw [List.append_nil] at hc
    subst hc
    refine bX3_finds_93 (d := d + 3) C hQ g m _ _ _ _ _ ⟨_, _, hM.1, rfl, fun _ => ⟨fun z => absurd z (by decide), fun _ => ⟨hM.is, ?_⟩⟩, fun z => absurd (show fi' 29 ≤ nI Ls.length by rw [hS.1 29 (by decide), l1]; exact nI_le (by omega) (by omega)) z⟩
    have hRw : zRw fi' fa' (Ls.filter (zfl fa i s)) := ⟨h27, by have := List.length_filter_le (zfl fa i s) Ls; omega, fun k hk => ⟨h28 k hk, l4 _ (List.mem_filter.mp (zr_mem hk)).1⟩⟩
    refine mp_tellsAll hok hM hRw hi hn (n := n) (hw.fa' (fun j h1 h2 => hS.2 j (by omega) (by omega) (by omega))) (by rw [hS.2 23 (by decide) (by decide) (by decide)]; exact hends) (fun g' fa'' a1 a2 a3 a4 => ⟨rfl, ?_⟩)
    rw [show (0 : Int32) = nI 0 from nI_0.symm]
    refine hK g' fi' fa'' a1 a2 ⟨hS.1, fun j h1 h2 h3 => (a3 j h2).trans (hS.2 j h1 h2 h3)⟩ (hRw.fa' (a3 28 (by decide))) (a3 33 (by decide)) (fun j hj => ?_)
    rw [a4 (n - 1) (by omega) j hj]
    exact zVv_sf hS
  | v :: B, A, g, fi', fa', hc, hM, hS, h27, h28, hK => by
    have hL0 := hL
    obtain ⟨l1, l2, l3, l4, l5⟩ := hL
    have hAl : A.length < Ls.length := by
      rw [hc, List.length_append, List.length_cons]
      omega
    have hvz : zr Ls A.length = v := by
      rw [hc]
      exact zr_app A v B
    have hv80 : v < 80 := l4 v (by rw [hc]; simp)
    have hP := List.length_filter_le (zfl fa i s) A
    have h21 : fa' 21 = fa 21 := hS.2 21 (by decide) (by decide) (by decide)
    have h9 : fa' 9 = fa 9 := hS.2 9 (by decide) (by decide) (by decide)
    have h30 : fa' 30 A.length = nI v := by
      rw [hS.2 30 (by decide) (by decide) (by decide), l5 _ hAl, hvz]
    have hcl : (nI A.length).toNatClampNeg = A.length := nI_clamp (by omega)
    have hcv : (nI v).toNatClampNeg = v := nI_clamp (by omega)
    have hcm : (nI (A.filter (zfl fa i s)).length).toNatClampNeg = (A.filter (zfl fa i s)).length := nI_clamp (by omega)
    have hA' : (A ++ [v]).length = A.length + 1 := by rw [List.length_append, List.length_singleton]
    have no : zfl fa i s v = false → GW X E 7 g 153 [(0, .ref m), (1, .int (nI i)), (2, .int (nI (n - 1))), (3, .int (nI s)), (4, .int 1), (5, .int (nI A.length))] [.int 0] := by
      intro hz
      have hP' : (A ++ [v]).filter (zfl fa i s) = A.filter (zfl fa i s) := by
        rw [List.filter_append]
        simp [hz]
      refine bX3_finds_153 (d := d + 3) C hQ g m _ _ _ _ _ _ ⟨_, _, hM.1, rfl, _, _, hM.1, rfl, fun _ => ⟨_, _, hM.1, rfl, _, _, hM.1, rfl, _, _, hM.2 28 (by decide), ?_, fun w hww => ⟨_, _, hM.2 28 (by decide), ?_, fun g2 e2 => ?_⟩⟩, fun z => absurd rfl z⟩
      · rw [h27]
        exact (zin 80 rfl (by omega) (by omega))
      · rw [h27]
        exact (zin 80 rfl (by omega) (by omega))
      · have hM2 := hM.sa (j := 28) (by decide) e2
        refine ⟨_, _, hM2.1, rfl, fun _ => ⟨_, hM2.1, by simp [zMf], fun g3 e3 => ?_⟩, fun z => absurd rfl z⟩
        have hM3 := hM2.si e3 (by decide)
        rw [← nI_succ, ← hA']
        refine mp_finds_r hok hL0 hi hn hn0 hw hends hs C hQ B (A ++ [v]) g3 _ _ (by rw [hc]; simp) hM3 ((hS.sa (Or.inl rfl) _).si _) (by rw [va_up_self, hP', h27]; exact Int32.add_zero _) (fun j hj => ?_) (fun g' fi'' fa'' a1 a2 a3 a4 a5 a6 => hK g' fi'' fa'' a1 (((zNm.sa (j := 28) (by decide) e2).trans (zNm.si e3)).trans a2) a3 a4 (a5.trans (va_up_ne _ _ (by decide))) a6)
        rw [hP'] at hj ⊢
        rw [va_up_self, h27, hcm, pk_un (by omega)]
        exact h28 j hj
    have yes : zfl fa i s v = true → GW X E 7 g 148 [(0, .ref m), (1, .int (nI i)), (2, .int (nI (n - 1))), (3, .int (nI s)), (4, .int 1), (5, .int (nI A.length))] [] := by
      intro hz
      have hP' : (A ++ [v]).filter (zfl fa i s) = A.filter (zfl fa i s) ++ [v] := by
        rw [List.filter_append]
        simp [hz]
      refine bX3_finds_148 (d := d + 3) C hQ g m _ _ _ _ _ (bX3_finds_153 (d := d + 3) C hQ g m _ _ _ _ _ _ ⟨_, _, hM.1, rfl, _, _, hM.1, rfl, fun z => absurd z (by decide), fun _ => ⟨_, _, hM.1, rfl, _, _, hM.2 30 (by decide), (zin 80 rfl (by omega) (by omega)), fun w hw => ⟨_, _, hM.2 28 (by decide), ?_, fun g2 e2 => ?_⟩⟩⟩)
      · rw [h27]
        exact (zin 80 rfl (by omega) (by omega))
      · rw [hcl, h30] at hw
        subst hw
        have hM2 := hM.sa (j := 28) (by decide) e2
        refine ⟨_, _, hM2.1, rfl, fun z => absurd z (by decide), fun _ => ⟨_, hM2.1, by simp [zMf], fun g3 e3 => ?_⟩⟩
        have hM3 := hM2.si e3 (by decide)
        rw [← nI_succ, ← hA']
        refine mp_finds_r hok hL0 hi hn hn0 hw hends hs C hQ B (A ++ [v]) g3 _ _ (by rw [hc]; simp) hM3 ((hS.sa (Or.inl rfl) _).si _) (by rw [va_up_self, hP', h27, List.length_append, List.length_singleton, nI_succ]) (fun j hj => ?_) (fun g' fi'' fa'' a1 a2 a3 a4 a5 a6 => hK g' fi'' fa'' a1 (((zNm.sa (j := 28) (by decide) e2).trans (zNm.si e3)).trans a2) a3 a4 (a5.trans (va_up_ne _ _ (by decide))) a6)
        rw [hP', List.length_append, List.length_singleton] at hj
        rw [hP', va_up_self, h27, hcm]
        by_cases cj : j = (A.filter (zfl fa i s)).length
        · rw [cj, pk_us, zr_app]
        · rw [pk_un cj, zr_app_l (by omega)]
          exact h28 j (by omega)
    refine bX3_finds_93 (d := d + 3) C hQ g m _ _ _ _ _ ⟨_, _, hM.1, rfl, fun z => absurd z (by rw [hS.1 29 (by decide), l1]; exact nI_ge (by omega) (by omega)), fun _ => ⟨fun z => absurd z (by decide), fun _ => ⟨_, _, hM.1, rfl, _, _, hM.2 21 (by decide), (zin 6 rfl (by omega) (by omega)), fun w hw => ?_⟩⟩⟩
    rw [nI_clamp (by omega), h21] at hw
    subst hw
    refine ⟨fun z => yes ?_, fun z => ⟨_, _, hM.1, rfl, _, _, hM.1, rfl, _, _, hM.2 30 (by decide), (zin 80 rfl (by omega) (by omega)), fun w hw => ?_⟩⟩
    · unfold zfl
      simp [z]
    · rw [hcl, h30] at hw
      subst hw
      refine ⟨_, _, hM.2 9 (by decide), (zin 80 rfl (by omega) (by omega)), fun w hw => ?_⟩
      rw [hcv, h9] at hw
      subst hw
      refine ⟨fun z2 => yes ?_, fun z2 => ⟨_, _, hM.1, rfl, _, _, hM.1, rfl, _, _, hM.2 30 (by decide), (zin 80 rfl (by omega) (by omega)), fun w hw => ?_⟩⟩
      · unfold zfl
        simp [z2]
      · rw [hcl, h30] at hw
        subst hw
        refine ⟨_, _, hM.2 9 (by decide), (zin 80 rfl (by omega) (by omega)), fun w hw => ?_⟩
        rw [hcv, h9] at hw
        subst hw
        refine ⟨fun z3 => no ?_, fun z3 => yes ?_⟩
        · unfold zfl
          simp [z, z2, z3]
        · unfold zfl
          simp [z3]
end FDS2
