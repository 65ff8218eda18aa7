set_option maxRecDepth 100000
/-- the ids that the first events have, as a set -/
def zid (fa : Nat → Nat → Int32) : Nat → Int32
  | 0 => 0
  | k + 1 => zid fa k ||| (if fa 9 k = -1 then (0 : Int32) else (1 : Int32) <<< (fa 9 k &&& 31))
/-- the model's log -/
def zLg (fi : Nat → Int32) (fa : Nat → Nat → Int32) (lg : List Nat) : Prop := fi 3 = nI lg.length ∧ lg.length ≤ 80 ∧ lg.Nodup ∧ (∀ v ∈ lg, v < lg.length) ∧ ∀ k : Nat, k < lg.length → fa 12 k = nI (zr lg k)
/-- nothing but what is for looking changes -/
def zSc (fi : Nat → Int32) (fa : Nat → Nat → Int32) (fi' : Nat → Int32) (fa' : Nat → Nat → Int32) : Prop := (∀ j : Nat, j ≠ 27 → j ≠ 29 → j ≠ 31 → fi' j = fi j) ∧ ∀ j : Nat, j ≠ 28 → j ≠ 30 → j ≠ 32 → j ≠ 33 → fa' j = fa j
theorem zSc.rf (fi : Nat → Int32) (fa : Nat → Nat → Int32) : zSc fi fa fi fa := ⟨fun _ _ _ _ => rfl, fun _ _ _ _ _ => rfl⟩
theorem zSc.trans {fi fi' fi'' : Nat → Int32} {fa fa' fa'' : Nat → Nat → Int32} (h : zSc fi fa fi' fa') (h' : zSc fi' fa' fi'' fa'') : zSc fi fa fi'' fa'' := ⟨fun j h1 h2 h3 => (h'.1 j h1 h2 h3).trans (h.1 j h1 h2 h3), fun j h1 h2 h3 h4 => (h'.2 j h1 h2 h3 h4).trans (h.2 j h1 h2 h3 h4)⟩
theorem zSf.sc {fi fi' : Nat → Int32} {fa fa' : Nat → Nat → Int32} (h : zSf fi fa fi' fa') : zSc fi fa fi' fa' := ⟨fun j h1 _ _ => h.1 j h1, fun j h1 _ h3 h4 => h.2 j h1 h3 h4⟩
theorem zst_sc {fi fi' : Nat → Int32} {fa fa' : Nat → Nat → Int32} {base : Nat} {R : List Nat} {tab : Nat → Nat → Int32} {p e : Nat} (h : zSc fi fa fi' fa') : zst fi' fa' base R tab p e = zst fi fa base R tab p e := by
  unfold zst zf1
  rw [h.2 16 (by decide) (by decide) (by decide) (by decide), h.2 17 (by decide) (by decide) (by decide) (by decide), h.2 18 (by decide) (by decide) (by decide) (by decide), h.2 19 (by decide) (by decide) (by decide) (by decide), h.2 7 (by decide) (by decide) (by decide) (by decide), h.2 8 (by decide) (by decide) (by decide) (by decide), h.2 10 (by decide) (by decide) (by decide) (by decide), h.1 2 (by decide) (by decide) (by decide), h.1 5 (by decide) (by decide) (by decide)]
theorem zT_sc {fi fi' : Nat → Int32} {fa fa' : Nat → Nat → Int32} {base : Nat} {R : List Nat} (h : zSc fi fa fi' fa') : ∀ n : Nat, zT fi' fa' base R n = zT fi fa base R n
  | 0 => rfl
  | n + 1 => by
    funext p e
    show (if p = n then zst fi' fa' base R (zT fi' fa' base R n) p e else zT fi' fa' base R n p e) = (if p = n then zst fi fa base R (zT fi fa base R n) p e else zT fi fa base R n p e)
    rw [zT_sc h n, zst_sc h]
theorem zVv_sc {fi fi' : Nat → Int32} {fa fa' : Nat → Nat → Int32} {base : Nat} {R : List Nat} {p e : Nat} (h : zSc fi fa fi' fa') : zVv fi' fa' base R p e = zVv fi fa base R p e := by
  unfold zVv
  rw [zT_sc h]
theorem zRn_sc {fi fi' : Nat → Int32} {fa fa' : Nat → Nat → Int32} {ids : Int32} {i : Nat} {Ls : List Nat} {s : Nat} (h : zSc fi fa fi' fa') : zRn fa' ids i Ls s = zRn fa ids i Ls s := by
  unfold zRn zak zfl
  rw [h.2 21 (by decide) (by decide) (by decide) (by decide), h.2 9 (by decide) (by decide) (by decide) (by decide)]
theorem zFd_sc {fi fi' : Nat → Int32} {fa fa' : Nat → Nat → Int32} {ids : Int32} {i n : Nat} {Ls : List Nat} {v : Nat} (h : zSc fi fa fi' fa') : ∀ s : Nat, zFd fi' fa' ids i n Ls s v = zFd fi fa ids i n Ls s v
  | 0 => rfl
  | s + 1 => by
    show (if v ∈ zRn fa' ids i Ls s then zAnd (zFd fi' fa' ids i n Ls s v) (zVv fi' fa' (192 + 24 * i) (zRn fa' ids i Ls s) (n - 1) ((zRn fa' ids i Ls s).idxOf v)) else zFd fi' fa' ids i n Ls s v) = (if v ∈ zRn fa ids i Ls s then zAnd (zFd fi fa ids i n Ls s v) (zVv fi fa (192 + 24 * i) (zRn fa ids i Ls s) (n - 1) ((zRn fa ids i Ls s).idxOf v)) else zFd fi fa ids i n Ls s v)
    rw [zRn_sc h, zFd_sc h s, zVv_sc h]
theorem zid_c {fa fa' : Nat → Nat → Int32} (h : fa' 9 = fa 9) : ∀ n : Nat, zid fa' n = zid fa n
  | 0 => rfl
  | n + 1 => by
    unfold zid
    rw [zid_c h n, h]
section LNS
variable {X : zX} {d : Nat} {g : zG} {K : Option Value → zG → Prop} {KX : String → zG → Prop} {m : Nat} {fi : Nat → Int32} {ad : Nat → Nat} {fa : Nat → Nat → Int32} {lg : List Nat}
theorem mp_lines_l {E : zM} (C : zC X d E RX3 cX3_lines 2 none "lines") (hQ : zQ X E K KX) {n : Nat} (hn : n ≤ 80) (h3 : fi 3 = nI n) : ∀ (c k : Nat) (g : zG) (fa' : Nat → Nat → Int32), n = k + c → zMd g m fi ad fa' → (∀ j, j ≠ 30 → fa' j = fa j) → (∀ j, j < k → fa' 30 j = fa 12 j) →
    (∀ (g' : zG) (fa'' : Nat → Nat → Int32), zMd g' m fi ad fa'' → zNm g g' → (∀ j, j ≠ 30 → fa'' j = fa j) → (∀ j, j < n → fa'' 30 j = fa 12 j) → K none g') → GW X E 2 g 10 [(0, .ref m), (1, .int (nI k))] []
  | 0, k, g, fa', hc, hM, hf, hI, hK => by
    refine bX3_lines_10 C hQ g m _ ⟨_, _, hM.1, rfl, fun _ => hK g fa' hM (zNm.rf g) hf (fun j hj => hI j (by omega)), fun z => absurd (show fi 3 ≤ nI k by rw [h3]; exact nI_le (by omega) (by omega)) z⟩
  | c + 1, k, g, fa', hc, hM, hf, hI, hK => by
    refine bX3_lines_10 C hQ g m _ ⟨_, _, hM.1, rfl, fun z => absurd z (by rw [h3]; exact nI_ge (by omega) (by omega)), fun _ => ⟨_, _, hM.1, rfl, _, _, hM.1, rfl, _, _, hM.2 12 (by decide), (zin 80 rfl (by omega) (by omega)), fun v hv => ⟨_, _, hM.2 30 (by decide), (zin 80 rfl (by omega) (by omega)), fun g2 e2 => ?_⟩⟩⟩
    rw [nI_clamp (by omega)] at hv e2
    subst hv
    rw [← nI_succ]
    refine mp_lines_l C hQ hn h3 c (k + 1) g2 _ (by omega) (hM.sa (j := 30) (by decide) e2) (fun j hj => by rw [va_up_ne _ _ hj]; exact hf j hj) (fun j hj => ?_) (fun g' fa'' a1 a2 a3 a4 => hK g' fa'' a1 ((zNm.sa (j := 30) (by decide) e2).trans a2) a3 a4)
    rw [va_up_self]
    by_cases cj : j = k
    · subst cj
      rw [pk_us, hf 12 (by decide)]
    · rw [pk_un cj]
      exact hI j (by omega)
theorem mp_lines (hok : zOk X) (hM : zMd g m fi ad fa) (hL : zLg fi fa lg) (hK : ∀ (g' : zG) (fa' : Nat → Nat → Int32), zMd g' m (va_up fi 29 (fi 3)) ad fa' → zNm g g' → (∀ j, j ≠ 30 → fa' j = fa j) → zLn (va_up fi 29 (fi 3)) fa' lg → K none g') : zCal X d yX3_lines wX3_lines [.ref m] g K KX := by
  obtain ⟨l1, l2, l3, l4, l5⟩ := hL
  refine mX3_lines hok m (fun E C hQ => ⟨_, _, hM.1, rfl, _, hM.1, by simp [zMf], fun g2 e2 => ?_⟩)
  have hM2 := hM.si e2 (by decide)
  rw [show (0 : Int32) = nI 0 from nI_0.symm]
  refine mp_lines_l C hQ l2 (by rw [va_up_ne _ _ (by decide)]; exact l1) lg.length 0 g2 fa (Nat.zero_add _).symm hM2 (fun _ _ => rfl) (fun j hj => absurd hj (Nat.not_lt_zero j)) (fun g' fa' a1 a2 a3 a4 => hK g' fa' a1 ((zNm.si e2).trans a2) a3 ⟨by rw [va_up_self, l1], l2, l3, fun v hv => ?_, fun k hk => ?_⟩)
  · have := l4 v hv
    omega
  · rw [a4 k hk, l5 k hk]
theorem mp_idsOf_l {E : zM} (C : zC X d E RX3 cX3_idsOf 3 (some .int) "idsOf") (hQ : zQ X E K KX) (hM : zMd g m fi ad fa) {n : Nat} (hn : n ≤ 80) (h3 : fi 3 = nI n) (hK : K (some (.int (zid fa n))) g) : ∀ (c k : Nat), n = k + c → GW X E 3 g 4 [(0, .ref m), (1, .int (zid fa k)), (2, .int (nI k))] []
  | 0, k, hc => by
    have : n = k := by omega
    subst this
    exact bX3_idsOf_4 C hQ g m _ _ ⟨_, _, hM.1, rfl, fun _ => hK, fun z => absurd (show fi 3 ≤ nI n by rw [h3]; exact nI_le (by omega) (by omega)) z⟩
  | c + 1, k, hc => by
    have ih := mp_idsOf_l C hQ hM hn h3 hK c (k + 1) (by omega)
    unfold zid at ih
    refine bX3_idsOf_4 C hQ g m _ _ ⟨_, _, hM.1, rfl, fun z => absurd z (by rw [h3]; exact nI_ge (by omega) (by omega)), fun _ => ⟨_, _, hM.1, rfl, _, _, hM.2 9 (by decide), (zin 80 rfl (by omega) (by omega)), fun v hv => ?_⟩⟩
    rw [nI_clamp (by omega)] at hv
    subst hv
    rw [← nI_succ]
    refine ⟨fun z => ⟨_, _, hM.1, rfl, _, _, hM.2 9 (by decide), (zin 80 rfl (by omega) (by omega)), fun v2 hv2 => ?_⟩, fun z => ?_⟩
    · rw [nI_clamp (by omega)] at hv2
      subst hv2
      rw [if_neg z] at ih
      exact ih
    · rw [if_pos z] at ih
      exact ih
theorem mp_idsOf (hok : zOk X) (hM : zMd g m fi ad fa) {n : Nat} (hn : n ≤ 80) (h3 : fi 3 = nI n) (hK : K (some (.int (zid fa n))) g) : zCal X d yX3_idsOf wX3_idsOf [.ref m] g K KX := by
  refine mX3_idsOf hok m (fun E C hQ => ?_)
  have := mp_idsOf_l C hQ hM hn h3 hK n 0 (Nat.zero_add _).symm
  rw [nI_0] at this
  exact this
end LNS
