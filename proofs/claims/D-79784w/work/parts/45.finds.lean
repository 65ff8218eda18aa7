set_option maxRecDepth 100000
/-- nothing but the row, the table and what is found changes -/
def zSf (fi : Nat → Int32) (fa : Nat → Nat → Int32) (fi' : Nat → Int32) (fa' : Nat → Nat → Int32) : Prop := (∀ j : Nat, j ≠ 27 → fi' j = fi j) ∧ ∀ j : Nat, j ≠ 28 → j ≠ 32 → j ≠ 33 → fa' j = fa j
theorem zSf.rf (fi : Nat → Int32) (fa : Nat → Nat → Int32) : zSf fi fa fi fa := ⟨fun _ _ => rfl, fun _ _ _ _ => rfl⟩
theorem zSf.trans {fi fi' fi'' : Nat → Int32} {fa fa' fa'' : Nat → Nat → Int32} (h : zSf fi fa fi' fa') (h' : zSf fi' fa' fi'' fa'') : zSf fi fa fi'' fa'' := ⟨fun j hj => (h'.1 j hj).trans (h.1 j hj), fun j h1 h2 h3 => (h'.2 j h1 h2 h3).trans (h.2 j h1 h2 h3)⟩
theorem zst_sf {fi fi' : Nat → Int32} {fa fa' : Nat → Nat → Int32} {base : Nat} {R : List Nat} {tab : Nat → Nat → Int32} {p e : Nat} (h : zSf fi fa fi' fa') : zst fi' fa' base R tab p e = zst fi fa base R tab p e := by
  unfold zst zf1
  rw [h.2 16 (by decide) (by decide) (by decide), h.2 17 (by decide) (by decide) (by decide), h.2 18 (by decide) (by decide) (by decide), h.2 19 (by decide) (by decide) (by decide), h.2 7 (by decide) (by decide) (by decide), h.2 8 (by decide) (by decide) (by decide), h.2 10 (by decide) (by decide) (by decide), h.1 2 (by decide), h.1 5 (by decide)]
theorem zT_sf {fi fi' : Nat → Int32} {fa fa' : Nat → Nat → Int32} {base : Nat} {R : List Nat} (h : zSf fi fa fi' fa') : ∀ n : Nat, zT fi' fa' base R n = zT fi fa base R n
  | 0 => rfl
  | n + 1 => by
    funext p e
    show (if p = n then zst fi' fa' base R (zT fi' fa' base R n) p e else zT fi' fa' base R n p e) = (if p = n then zst fi fa base R (zT fi fa base R n) p e else zT fi fa base R n p e)
    rw [zT_sf h n, zst_sf h]
theorem zVv_sf {fi fi' : Nat → Int32} {fa fa' : Nat → Nat → Int32} {base : Nat} {R : List Nat} {p e : Nat} (h : zSf fi fa fi' fa') : zVv fi' fa' base R p e = zVv fi fa base R p e := by
  unfold zVv
  rw [zT_sf h]
/-- whether an event is in the slice its of monitor i -/
def zfl (fa : Nat → Nat → Int32) (i its v : Nat) : Bool := fa 21 i == 0 || (fa 9 v == nI its || fa 9 v == -1)
/-- whether a slice is asked -/
def zak (fa : Nat → Nat → Int32) (ids : Int32) (i its : Nat) : Bool := if fa 21 i = 0 then its == 0 else ((ids >>> (nI its &&& 31)) &&& 1) == 1
def zRn (fa : Nat → Nat → Int32) (ids : Int32) (i : Nat) (Ls : List Nat) (its : Nat) : List Nat := if zak fa ids i its = true then Ls.filter (zfl fa i its) else []
/-- what is found of the event v, by the slices ahead of s -/
def zFd (fi : Nat → Int32) (fa : Nat → Nat → Int32) (ids : Int32) (i n : Nat) (Ls : List Nat) : Nat → Nat → Int32
  | 0, _ => 1
  | s + 1, v => if v ∈ zRn fa ids i Ls s then zAnd (zFd fi fa ids i n Ls s v) (zVv fi fa (192 + 24 * i) (zRn fa ids i Ls s) (n - 1) ((zRn fa ids i Ls s).idxOf v)) else zFd fi fa ids i n Ls s v
/-- the line of events that the model looks at -/
def zLn (fi : Nat → Int32) (fa : Nat → Nat → Int32) (Ls : List Nat) : Prop := fi 29 = nI Ls.length ∧ Ls.length ≤ 80 ∧ Ls.Nodup ∧ (∀ v ∈ Ls, v < 80) ∧ ∀ k : Nat, k < Ls.length → fa 30 k = nI (zr Ls k)
theorem zr_mem {R : List Nat} {k : Nat} (h : k < R.length) : zr R k ∈ R := by
  unfold zr
  rw [List.getD_eq_getElem?_getD, List.getElem?_eq_getElem h]
  exact List.getElem_mem h
theorem zr_app (A : List Nat) (v : Nat) (B : List Nat) : zr (A ++ v :: B) A.length = v := by
  unfold zr
  rw [List.getD_eq_getElem?_getD, List.getElem?_append_right (Nat.le_refl _), Nat.sub_self]
  rfl
theorem zr_app_l {A B : List Nat} {k : Nat} (h : k < A.length) : zr (A ++ B) k = zr A k := by
  unfold zr
  rw [List.getD_eq_getElem?_getD, List.getD_eq_getElem?_getD, List.getElem?_append_left h]
theorem zr_inj {R : List Nat} (hn : R.Nodup) {j k : Nat} (hj : j < R.length) (hk : k < R.length) (h : zr R j = zr R k) : j = k := by
  unfold zr at h
  rw [List.getD_eq_getElem?_getD, List.getD_eq_getElem?_getD, List.getElem?_eq_getElem hj, List.getElem?_eq_getElem hk] at h
  have hp := List.pairwise_iff_getElem.mp hn
  have h1 : ¬ j < k := fun z => hp j k hj hk z h
  have h2 : ¬ k < j := fun z => hp k j hk hj z h.symm
  omega
theorem zr_idx {R : List Nat} {v : Nat} (h : v ∈ R) : R.idxOf v < R.length ∧ zr R (R.idxOf v) = v := by
  have h1 : R.idxOf v < R.length := List.idxOf_lt_length_iff.mpr h
  refine ⟨h1, ?_⟩
  unfold zr
  rw [List.getD_eq_getElem?_getD, List.getElem?_eq_getElem h1]
  exact List.getElem_idxOf h1
section FDS
variable {X : zX} {d : Nat} {g : zG} {K : Option Value → zG → Prop} {KX : String → zG → Prop} {m : Nat} {fi : Nat → Int32} {ad : Nat → Nat} {fa : Nat → Nat → Int32} {R Ls : List Nat}
/-- all is TRUE at first -/
theorem mp_finds_1 (hL : zLn fi fa Ls) {E : zM} (C : zC X (d + 1) E RX3 cX3_finds 7 none "finds") (hQ : zQ X E K KX) {x1 x2 : Int32} : ∀ (c k : Nat) (g : zG) (fa' : Nat → Nat → Int32), Ls.length = k + c → zMd g m fi ad fa' → (∀ j, j ≠ 33 → fa' j = fa j) → (∀ j, j < k → fa' 33 (zr Ls j) = 1) →
    (∀ (g' : zG) (fa'' : Nat → Nat → Int32), zMd g' m fi ad fa'' → zNm g g' → (∀ j, j ≠ 33 → fa'' j = fa j) → (∀ v ∈ Ls, fa'' 33 v = 1) → GW X E 7 g' 39 [(0, .ref m), (1, .int x1), (2, .int x2), (3, .int (nI 0))] []) → GW X E 7 g 11 [(0, .ref m), (1, .int x1), (2, .int x2), (3, .int (nI k))] []
  | 0, k, g, fa', hc, hM, hf, hI, hK => by
    obtain ⟨l1, l2, l3, l4, l5⟩ := hL
    refine bX3_finds_11 C hQ g m _ _ _ ⟨_, _, hM.1, rfl, fun _ => ?_, fun z => absurd (show fi 29 ≤ nI k by rw [l1]; exact nI_le (by omega) (by omega)) z⟩
    refine hK g fa' hM (zNm.rf g) hf (fun v hv => ?_)
    obtain ⟨h1, h2⟩ := zr_idx hv
    rw [← h2]
    exact hI _ (by omega)
  | c + 1, k, g, fa', hc, hM, hf, hI, hK => by
    have hL0 := hL
    obtain ⟨l1, l2, l3, l4, l5⟩ := hL
    have hv80 := l4 _ (zr_mem (R := Ls) (k := k) (by omega))
    refine bX3_finds_11 C hQ g m _ _ _ ⟨_, _, hM.1, rfl, fun z => absurd z (by rw [l1]; exact nI_ge (by omega) (by omega)), fun _ => ⟨_, _, hM.1, rfl, _, _, hM.1, rfl, _, _, hM.2 30 (by decide), (zin 80 rfl (by omega) (by omega)), fun v hv => ?_⟩⟩
    rw [nI_clamp (by omega), hf 30 (by decide), l5 k (by omega)] at hv
    subst hv
    refine ⟨_, _, hM.2 33 (by decide), (zin 80 rfl (by omega) (by omega)), fun g2 e2 => ?_⟩
    rw [nI_clamp (by omega)] at e2
    rw [← nI_succ]
    refine mp_finds_1 hL0 C hQ c (k + 1) g2 _ (by omega) (hM.sa (j := 33) (by decide) e2) (fun j hj => by rw [va_up_ne _ _ hj]; exact hf j hj) (fun j hj => ?_) (fun g' fa'' a1 a2 a3 a4 => hK g' fa'' a1 ((zNm.sa (j := 33) (by decide) e2).trans a2) a3 a4)
    rw [va_up_self]
    by_cases cj : j = k
    · subst cj
      rw [pk_us]
    · rw [pk_un (fun z => cj (zr_inj l3 (by omega) (by omega) z))]
      exact hI j (by omega)
/-- the answers of a row are joined to what was found -/
theorem mp_finds_j (hok : zOk X) {n : Nat} (hn : n ≤ 24) (hn0 : 0 < n) {i s : Nat} (hR : R.Nodup) {E : zM} (C : zC X (d + 4) E RX3 cX3_finds 7 none "finds") (hQ : zQ X E K KX) {o T : Nat → Int32} {x1 : Int32} : ∀ (c k : Nat) (g : zG) (fa' : Nat → Nat → Int32), R.length = k + c → zMd g m fi ad fa' → zRw fi fa' R → (∀ j, j < R.length → ztb fa' (n - 1) j = T j) → (∀ j, j < R.length → fa' 33 (zr R j) = if j < k then zAnd (o (zr R j)) (T j) else o (zr R j)) → (∀ v, v ∉ R → fa' 33 v = o v) →
    (∀ (g' : zG) (fa'' : Nat → Nat → Int32), zMd g' m fi ad fa'' → zNm g g' → (∀ j, j ≠ 33 → fa'' j = fa' j) → (∀ v, fa'' 33 v = if v ∈ R then zAnd (o v) (T (R.idxOf v)) else o v) → GW X E 7 g' 39 [(0, .ref m), (1, .int x1), (2, .int (nI (n - 1))), (3, .int (nI (s + 1)))] []) → GW X E 7 g 226 [(0, .ref m), (1, .int x1), (2, .int (nI (n - 1))), (3, .int (nI s)), (5, .int (nI k))] []
  | 0, k, g, fa', hc, hM, hRw, hT, hI, hO, hK => by
    have h80 := hRw.2.1
    refine bX3_finds_226 (d := d + 3) C hQ g m _ _ _ _ ⟨_, _, hM.1, rfl, fun _ => ?_, fun z => absurd (show fi 27 ≤ nI k by rw [hRw.1]; exact nI_le (by omega) (by omega)) z⟩
    rw [← nI_succ]
    refine hK g fa' hM (zNm.rf g) (fun _ _ => rfl) (fun v => ?_)
    by_cases c : v ∈ R
    · obtain ⟨h1, h2⟩ := zr_idx c
      have := hI _ h1
      rw [h2, if_pos (by omega)] at this
      rw [if_pos c, this]
    · rw [if_neg c, hO v c]
  | c + 1, k, g, fa', hc, hM, hRw, hT, hI, hO, hK => by
    have h80 := hRw.2.1
    obtain ⟨k1, k2⟩ := hRw.2.2 k (by omega)
    refine bX3_finds_226 (d := d + 3) C hQ g m _ _ _ _ ⟨_, _, hM.1, rfl, fun z => absurd z (by rw [hRw.1]; exact nI_ge (by omega) (by omega)), fun _ => ⟨_, _, hM.1, rfl, _, _, hM.1, rfl, _, _, hM.2 28 (by decide), (zin 80 rfl (by omega) (by omega)), fun v hv => ⟨_, _, hM.1, rfl, _, _, hM.1, rfl, _, _, hM.2 28 (by decide), (zin 80 rfl (by omega) (by omega)), fun v2 hv2 => ?_⟩⟩⟩
    rw [nI_clamp (by omega), k1] at hv hv2
    subst hv hv2
    refine ⟨_, _, hM.2 33 (by decide), (zin 80 rfl (by omega) (by omega)), fun v3 hv3 => ?_⟩
    rw [nI_clamp (by omega)] at hv3
    subst hv3
    refine ⟨hM.is, mp_at hok hM (by omega) (by omega) ⟨_, rfl, mp_and hok ⟨_, rfl, _, _, hM.2 33 (by decide), (zin 80 rfl (by omega) (by omega)), fun g2 e2 => ?_⟩⟩⟩
    rw [nI_clamp (by omega)] at e2
    rw [← nI_succ]
    refine mp_finds_j hok hn hn0 (i := i) hR C hQ (o := o) (T := T) c (k + 1) g2 _ (by omega) (hM.sa (j := 33) (by decide) e2) (hRw.fa' (va_up_ne _ _ (by decide))) (fun j hj => ?_) (fun j hj => ?_) (fun v hv => ?_) (fun g' fa'' a1 a2 a3 a4 => hK g' fa'' a1 ((zNm.sa (j := 33) (by decide) e2).trans a2) (fun j hj => (a3 j hj).trans (va_up_ne _ _ hj)) a4)
    · unfold ztb
      rw [va_up_ne _ _ (by decide)]
      exact hT j hj
    · rw [va_up_self]
      by_cases cj : j = k
      · subst cj
        rw [pk_us, if_pos (by omega), hT j hj, hI j hj, if_neg (by omega)]
      · rw [pk_un (fun z => cj (zr_inj hR hj (by omega) z)), hI j hj]
        by_cases c2 : j < k
        · rw [if_pos c2, if_pos (by omega)]
        · rw [if_neg c2, if_neg (by omega)]
    · rw [va_up_self, pk_un (fun z => hv (by rw [z]; exact zr_mem (by omega)))]
      exact hO v hv
end FDS
