set_option maxRecDepth 100000
/-- what answers rest on is the same -/
def zSa (fi : Nat → Int32) (fa : Nat → Nat → Int32) (fi' : Nat → Int32) (fa' : Nat → Nat → Int32) : Prop := fi' 2 = fi 2 ∧ fi' 5 = fi 5 ∧ fa' 7 = fa 7 ∧ fa' 8 = fa 8 ∧ fa' 9 = fa 9 ∧ fa' 10 = fa 10 ∧ fa' 16 = fa 16 ∧ fa' 17 = fa 17 ∧ fa' 18 = fa 18 ∧ fa' 19 = fa 19 ∧ fa' 21 = fa 21
theorem zst_sa {fi fi' : Nat → Int32} {fa fa' : Nat → Nat → Int32} {base : Nat} {R : List Nat} {tab : Nat → Nat → Int32} {p e : Nat} (h : zSa fi fa fi' fa') : zst fi' fa' base R tab p e = zst fi fa base R tab p e := by
  obtain ⟨h2, h5, a7, a8, a9, a10, a16, a17, a18, a19, a21⟩ := h
  unfold zst zf1
  rw [h2, h5, a7, a8, a10, a16, a17, a18, a19]
theorem zT_sa {fi fi' : Nat → Int32} {fa fa' : Nat → Nat → Int32} {base : Nat} {R : List Nat} (h : zSa fi fa fi' fa') : ∀ n : Nat, zT fi' fa' base R n = zT fi fa base R n
  | 0 => rfl
  | n + 1 => by
    funext p e
    show (if p = n then zst fi' fa' base R (zT fi' fa' base R n) p e else zT fi' fa' base R n p e) = (if p = n then zst fi fa base R (zT fi fa base R n) p e else zT fi fa base R n p e)
    rw [zT_sa h n, zst_sa h]
theorem zVv_sa {fi fi' : Nat → Int32} {fa fa' : Nat → Nat → Int32} {base : Nat} {R : List Nat} {p e : Nat} (h : zSa fi fa fi' fa') : zVv fi' fa' base R p e = zVv fi fa base R p e := by
  unfold zVv
  rw [zT_sa h]
theorem zRn_sa {fi fi' : Nat → Int32} {fa fa' : Nat → Nat → Int32} {ids : Int32} {i : Nat} {Ls : List Nat} {s : Nat} (h : zSa fi fa fi' fa') : zRn fa' ids i Ls s = zRn fa ids i Ls s := by
  obtain ⟨h2, h5, a7, a8, a9, a10, a16, a17, a18, a19, a21⟩ := h
  unfold zRn zak zfl
  rw [a9, a21]
theorem zFd_sa {fi fi' : Nat → Int32} {fa fa' : Nat → Nat → Int32} {ids : Int32} {i n : Nat} {Ls : List Nat} {v : Nat} (h : zSa fi fa fi' fa') : ∀ s : Nat, zFd fi' fa' ids i n Ls s v = zFd fi fa ids i n Ls s v
  | 0 => rfl
  | s + 1 => by
    show (if v ∈ zRn fa' ids i Ls s then zAnd (zFd fi' fa' ids i n Ls s v) (zVv fi' fa' (192 + 24 * i) (zRn fa' ids i Ls s) (n - 1) ((zRn fa' ids i Ls s).idxOf v)) else zFd fi' fa' ids i n Ls s v) = (if v ∈ zRn fa ids i Ls s then zAnd (zFd fi fa ids i n Ls s v) (zVv fi fa (192 + 24 * i) (zRn fa ids i Ls s) (n - 1) ((zRn fa ids i Ls s).idxOf v)) else zFd fi fa ids i n Ls s v)
    rw [zRn_sa h, zFd_sa h s, zVv_sa h]
theorem zAn_sa {fi fi' : Nat → Int32} {fa fa' : Nat → Nat → Int32} {i n : Nat} {Ls : List Nat} {nE : Nat} (h : zSa fi fa fi' fa') : zAn fi' fa' i n Ls nE = zAn fi fa i n Ls nE := by
  funext v
  unfold zAn
  rw [zFd_sa h, zid_c h.2.2.2.2.1]
/-- answers are TRUE, FALSE or OPEN -/
theorem zFd_3 (fi : Nat → Int32) (fa : Nat → Nat → Int32) (ids : Int32) (i n : Nat) (Ls : List Nat) (v : Nat) : ∀ s : Nat, z3 (zFd fi fa ids i n Ls s v)
  | 0 => Or.inr (Or.inl rfl)
  | s + 1 => by
    show z3 (if v ∈ zRn fa ids i Ls s then zAnd _ _ else zFd fi fa ids i n Ls s v)
    split
    · exact zAnd_3 _ _
    · exact zFd_3 fi fa ids i n Ls v s
theorem zAn_3 (fi : Nat → Int32) (fa : Nat → Nat → Int32) (i n : Nat) (Ls : List Nat) (nE v : Nat) : z3 (zAn fi fa i n Ls nE v) := zFd_3 _ _ _ _ _ _ _ _
