set_option maxRecDepth 100000
theorem zks_c {fa fa' : Nat → Nat → Int32} (h : fa' 25 = fa 25) (ans : Nat → Int32) (i old : Nat) : ∀ k : Nat, zks fa' ans i old k = zks fa ans i old k
  | 0 => rfl
  | k + 1 => by
    unfold zks
    rw [zks_c h ans i old k, h]
theorem ztk_c {fa fa' : Nat → Nat → Int32} (h : fa' 25 = fa 25) (h' : fa' 24 = fa 24) (ans : Nat → Int32) (i old : Nat) : ∀ k : Nat, ztk fa' ans i old k = ztk fa ans i old k
  | 0 => by
    unfold ztk
    rw [h']
  | k + 1 => by
    unfold ztk
    rw [ztk_c h h' ans i old k, h]
/-- what keeps leaves: of the numbers, and of the arrays -/
def zkF (fi fi' : Nat → Int32) : Prop := ∀ j : Nat, j ≠ 27 → j ≠ 29 → j ≠ 31 → fi' j = fi j
def zkR (fa : Nat → Nat → Int32) (ans : Nat → Int32) (n : Int32) (i old k : Nat) (fa' : Nat → Nat → Int32) : Prop := (∀ j, j ≠ 24 → j ≠ 25 → j ≠ 26 → j ≠ 28 → j ≠ 30 → j ≠ 32 → j ≠ 33 → fa' j = fa j) ∧ (∀ j, fa' 25 j = zkp fa ans i k j) ∧ (∀ j, fa' 26 j = zsc' fa ans n i old k j) ∧ ∀ j, fa' 24 j = if j = i then ztk fa ans i old k else fa 24 j
theorem zkI.R {fi : Nat → Int32} {fa fa' fa'' : Nat → Nat → Int32} {ans : Nat → Int32} {n : Int32} {i old k : Nat} (hs : ∀ j, j ≠ 28 → j ≠ 30 → j ≠ 32 → j ≠ 33 → fa' j = fa j) (h : zkI fa' ans n i old k fa'') : zkR fa ans n i old k fa'' := by
  obtain ⟨h1, h2, h3, h4⟩ := h
  have e4 := hs 24 (by decide) (by decide) (by decide) (by decide)
  have e5 := hs 25 (by decide) (by decide) (by decide) (by decide)
  have e6 := hs 26 (by decide) (by decide) (by decide) (by decide)
  refine ⟨fun j a b c a' b' c' d' => (h1 j a b c).trans (hs j a' b' c' d'), fun j => ?_, fun j => ?_, fun j => ?_⟩
  · rw [h2 j]
    unfold zkp
    rw [e5]
  · rw [h3 j]
    unfold zsc'
    rw [e5, e6]
  · rw [h4 j, ztk_c e5 e4, e4]
section KPS2
variable {X : zX} {d : Nat} {g : zG} {K : Option Value → zG → Prop} {KX : String → zG → Prop} {m : Nat} {fi : Nat → Int32} {ad : Nat → Nat} {fa : Nat → Nat → Int32} {lg : List Nat}
/-- what monitor i tells of the event v in a line, all ids asked -/
def zAn (fi : Nat → Int32) (fa : Nat → Nat → Int32) (i n : Nat) (Ls : List Nat) (nE v : Nat) : Int32 := zFd fi fa (zid fa nE) i n Ls 10 v
theorem mp_keeps (hok : zOk X) (hM : zMd g m fi ad fa) (hL : zLg fi fa lg) (hall : ∀ k, k < lg.length → k ∈ lg) {i n old : Nat} (hi : i < 6) (hn : n ≤ 24) (hn0 : 0 < n) (hw : zwf fa (192 + 24 * i) n) (hends : fa 23 i = nI n) (ho : old ≤ 80)
    (hK : ∀ (g' : zG) (fi' : Nat → Int32) (fa' : Nat → Nat → Int32), zMd g' m fi' ad fa' → zNm g g' → zkF fi fi' → zkR fa (zAn fi fa i n lg lg.length) (fi 3) i old lg.length fa' → K (some (.int (zks fa (zAn fi fa i n lg lg.length) i old lg.length))) g') : zCal X (d + 5) yX3_keeps wX3_keeps [.ref m, .int (nI i), .int (nI old)] g K KX := by
  have hL0 := hL
  obtain ⟨l1, l2, l3, l4, l5⟩ := hL
  refine mX3_keeps (d := d + 4) hok m _ _ (fun E C hQ => ⟨hM.is, mp_lines hok hM hL0 (fun g1 fa1 a1 a2 a3 a4 => ⟨rfl, a1.is, mp_idsOf hok a1 (n := lg.length) l2 (by rw [va_up_ne _ _ (by decide)]; exact l1) ⟨_, rfl, _, a1.1, by simp [zMf], fun g2 e2 => ?_⟩⟩)⟩)
  have hM2 := a1.si e2 (by decide)
  have hS2 : zSc fi fa (va_up (va_up fi 29 (fi 3)) 31 (zid fa1 lg.length)) fa1 := ⟨fun j _ h2 h3 => by rw [va_up_ne _ _ h3, va_up_ne _ _ h2], fun j _ h2 _ _ => a3 j h2⟩
  have hL2 : zLn (va_up (va_up fi 29 (fi 3)) 31 (zid fa1 lg.length)) fa1 lg := ⟨by rw [va_up_ne _ _ (by decide)]; exact a4.1, a4.2⟩
  refine ⟨hM2.is, mp_finds hok hM2 hL2 hi hn hn0 (hw.fa' (fun j h1 h2 => a3 j (by omega))) (by rw [a3 23 (by decide)]; exact hends) (fun g3 fi3 fa3 b1 b2 b3 b4 => ⟨rfl, ?_⟩)⟩
  have hS3 := hS2.trans b3.sc
  have hans : ∀ k, k < lg.length → fa3 33 k = zAn fi fa i n lg lg.length k := by
    intro k hk
    rw [b4 k (hall k hk), va_up_self, zFd_sc hS2, zid_c (a3 9 (by decide))]
    rfl
  have e3 : fi3 3 = fi 3 := hS3.1 3 (by decide) (by decide) (by decide)
  show GW X E 7 g3 22 [(0, .ref m), (1, .int (nI i)), (2, .int (nI old)), (3, .int (zks fa3 (zAn fi fa i n lg lg.length) i old 0)), (4, .int 0)] []
  rw [show (0 : Int32) = nI 0 from nI_0.symm]
  refine mp_keeps_l (d := d + 4) (fi := fi3) (fa := fa3) C hQ hi (n := lg.length) l2 ho (by rw [e3]; exact l1) hans lg.length 0 g3 fa3 (Nat.zero_add _).symm b1 ⟨fun _ _ _ _ => rfl, fun j => ?_, fun j => ?_, fun j => ?_⟩ (fun g' fa'' c1 c2 c3 => ?_)
  · unfold zkp
    rw [if_neg (by omega)]
  · unfold zsc'
    rw [if_neg (by omega)]
  · show _ = if j = i then fa3 24 i else _
    by_cases c : j = i
    · rw [if_pos c, c]
    · rw [if_neg c]
  · rw [zks_c (hS3.2 25 (by decide) (by decide) (by decide) (by decide))]
    refine hK g' fi3 fa'' c1 (((a2.trans (zNm.si e2)).trans b2).trans c2) hS3.1 ?_
    rw [← e3]
    exact c3.R (fi := fi) hS3.2
end KPS2
