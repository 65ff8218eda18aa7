set_option maxRecDepth 100000
theorem zFe.so1 {g : zG} {k a : Nat} {fs : List Value} : zFe (fun j => j = k) g (zSo g k a fs) := zFe.so rfl
/-! the answers rest on the events of the line alone -/
section EVC
variable {fi fi' : Nat → Int32} {fa fa' : Nat → Nat → Int32} {lg : List Nat} {M P : Nat} {np sz : Nat → Nat}
theorem zst_ev {base : Nat} {R : List Nat} {tab : Nat → Nat → Int32} {p e : Nat} (h2 : fi' 2 = fi 2) (h5 : fi' 5 = fi 5) (h16 : fa' 16 = fa 16) (h17 : fa' 17 = fa 17) (h18 : fa' 18 = fa 18) (h19 : fa' 19 = fa 19) (h7 : ∀ k, fa' 7 (zr R k) = fa 7 (zr R k)) (h8 : ∀ k, fa' 8 (zr R k) = fa 8 (zr R k)) (h10 : ∀ k, fa' 10 (zr R k) = fa 10 (zr R k)) : zst fi' fa' base R tab p e = zst fi fa base R tab p e := by
  unfold zst znr zop zf1
  simp only [h2, h5, h16, h17, h18, h19, h7, h8, h10]
theorem zT_ev {base : Nat} {R : List Nat} (h2 : fi' 2 = fi 2) (h5 : fi' 5 = fi 5) (h16 : fa' 16 = fa 16) (h17 : fa' 17 = fa 17) (h18 : fa' 18 = fa 18) (h19 : fa' 19 = fa 19) (h7 : ∀ k, fa' 7 (zr R k) = fa 7 (zr R k)) (h8 : ∀ k, fa' 8 (zr R k) = fa 8 (zr R k)) (h10 : ∀ k, fa' 10 (zr R k) = fa 10 (zr R k)) : ∀ k : Nat, zT fi' fa' base R k = zT fi fa base R k
  | 0 => rfl
  | k + 1 => by
    funext p e
    show (if p = k then zst fi' fa' base R (zT fi' fa' base R k) p e else zT fi' fa' base R k p e) = (if p = k then zst fi fa base R (zT fi fa base R k) p e else zT fi fa base R k p e)
    rw [zT_ev h2 h5 h16 h17 h18 h19 h7 h8 h10 k, zst_ev h2 h5 h16 h17 h18 h19 h7 h8 h10]
theorem zr_in {R : List Nat} {n : Nat} (h : ∀ v ∈ R, v < n) (hn : 0 < n) (k : Nat) : zr R k < n := by
  by_cases c : k < R.length
  · exact h _ (zr_mem c)
  · unfold zr
    rw [List.getD_eq_getElem?_getD, List.getElem?_eq_none (by omega)]
    exact hn
theorem zRn_ev {ids : Int32} {i n : Nat} {Ls : List Nat} (h21 : fa' 21 = fa 21) (hL : ∀ v ∈ Ls, v < n) (h9 : ∀ v, v < n → fa' 9 v = fa 9 v) (s : Nat) : zRn fa' ids i Ls s = zRn fa ids i Ls s := by
  unfold zRn zak
  have e : Ls.filter (zfl fa' i s) = Ls.filter (zfl fa i s) := List.filter_congr (fun v hv => by
    unfold zfl
    rw [h21, h9 v (hL v hv)])
  rw [e, h21]
theorem zRn_sub (fa : Nat → Nat → Int32) (ids : Int32) (i : Nat) (Ls : List Nat) (s : Nat) : ∀ v ∈ zRn fa ids i Ls s, v ∈ Ls := fun v hv => by
  unfold zRn at hv
  split at hv
  · exact (List.mem_filter.mp hv).1
  · cases hv
theorem zFd_ev {ids : Int32} {i np n : Nat} {Ls : List Nat} (h2 : fi' 2 = fi 2) (h5 : fi' 5 = fi 5) (h16 : fa' 16 = fa 16) (h17 : fa' 17 = fa 17) (h18 : fa' 18 = fa 18) (h19 : fa' 19 = fa 19) (h21 : fa' 21 = fa 21) (hn : 0 < n) (hL : ∀ v ∈ Ls, v < n) (h7 : ∀ v, v < n → fa' 7 v = fa 7 v) (h8 : ∀ v, v < n → fa' 8 v = fa 8 v) (h9 : ∀ v, v < n → fa' 9 v = fa 9 v) (h10 : ∀ v, v < n → fa' 10 v = fa 10 v) (v : Nat) : ∀ s : Nat, zFd fi' fa' ids i np Ls s v = zFd fi fa ids i np Ls s v
  | 0 => rfl
  | s + 1 => by
    have hR : ∀ u ∈ zRn fa ids i Ls s, u < n := fun u hu => hL u (zRn_sub _ _ _ _ _ u hu)
    show (if v ∈ zRn fa' ids i Ls s then zAnd (zFd fi' fa' ids i np Ls s v) (zVv fi' fa' (192 + 24 * i) (zRn fa' ids i Ls s) (np - 1) ((zRn fa' ids i Ls s).idxOf v)) else zFd fi' fa' ids i np Ls s v) = (if v ∈ zRn fa ids i Ls s then zAnd (zFd fi fa ids i np Ls s v) (zVv fi fa (192 + 24 * i) (zRn fa ids i Ls s) (np - 1) ((zRn fa ids i Ls s).idxOf v)) else zFd fi fa ids i np Ls s v)
    rw [zRn_ev h21 hL h9, zFd_ev h2 h5 h16 h17 h18 h19 h21 hn hL h7 h8 h9 h10 v s]
    unfold zVv
    rw [zT_ev h2 h5 h16 h17 h18 h19 (fun k => h7 _ (zr_in hR hn k)) (fun k => h8 _ (zr_in hR hn k)) (fun k => h10 _ (zr_in hR hn k))]
theorem zid_ev {n : Nat} (h9 : ∀ v, v < n → fa' 9 v = fa 9 v) : ∀ m : Nat, m ≤ n → zid fa' m = zid fa m
  | 0, _ => rfl
  | m + 1, h => by
    show zid fa' m ||| (if fa' 9 m = -1 then (0 : Int32) else (1 : Int32) <<< (fa' 9 m &&& 31)) = _
    rw [zid_ev h9 m (by omega), h9 m (by omega)]
    rfl
theorem zPv_of (hV : zPv fi fa lg M P np sz) (h : zof fi fa lg fi' fa') : zPv fi' fa' lg M P np sz := by
  obtain ⟨o1, o2, o3, o4, o5, o6⟩ := h
  have j (k : Nat) (h1 : k ≠ 4) (h2 : k ≠ 27) (h3 : k ≠ 29) (h4 : k ≠ 31) (h5 : k ≠ 34) : fi' k = fi k := o1 k h1 h2 h3 h4 h5
  have k (q : Nat) (h1 : q < 6 ∨ 12 < q) (h2 : q ≠ 28) (h3 : q ≠ 30) (h4 : q ≠ 32) (h5 : q ≠ 33) : fa' q = fa q := o4 q h1 h2 h3 h4 h5
  have hlv := hV.1.2.2.2.1
  refine hV.cg (j 1 (by decide) (by decide) (by decide) (by decide) (by decide)) (j 13 (by decide) (by decide) (by decide) (by decide) (by decide)) (j 15 (by decide) (by decide) (by decide) (by decide) (by decide)) (j 20 (by decide) (by decide) (by decide) (by decide) (by decide)) (k 0 (by decide) (by decide) (by decide) (by decide) (by decide)) (k 14 (by decide) (by decide) (by decide) (by decide) (by decide)) (k 16 (by decide) (by decide) (by decide) (by decide) (by decide)) (k 17 (by decide) (by decide) (by decide) (by decide) (by decide)) (k 18 (by decide) (by decide) (by decide) (by decide) (by decide)) (k 19 (by decide) (by decide) (by decide) (by decide) (by decide)) (k 23 (by decide) (by decide) (by decide) (by decide) (by decide)) ?_ hV.2.1 ?_ ?_ ?_ ?_
  · obtain ⟨q1, q2, q3, q4, q5⟩ := hV.1
    exact ⟨(j 3 (by decide) (by decide) (by decide) (by decide) (by decide)).trans q1, q2, q3, q4, o6⟩
  · obtain ⟨q1, q2, q3, q4, ⟨t, q5, q6, q7⟩, q8, q9⟩ := hV.2.2.2.2.1
    refine ⟨q1, q2, fun a b hab hb => ?_, fun v hv => ?_, ⟨t, q5, by rw [j 5 (by decide) (by decide) (by decide) (by decide) (by decide)]; exact q6, fun v hv => ?_⟩, fun v hv => ?_, q9⟩
    · rw [o5 7 (by omega) (by omega) _ (hlv _ (zr_mem hb)), o5 7 (by omega) (by omega) _ (hlv _ (zr_mem (show a < lg.length by omega)))]
      exact q3 a b hab hb
    · rw [o5 7 (by omega) (by omega) _ (hlv v hv)]
      exact q4 v hv
    · rw [o5 7 (by omega) (by omega) _ (hlv v hv), j 5 (by decide) (by decide) (by decide) (by decide) (by decide)]
      exact q7 v hv
    · rw [o5 10 (by omega) (by omega) _ (hlv v hv)]
      exact q8 v hv
  · intro v hv
    rw [o5 9 (by omega) (by omega) v hv]
    exact hV.2.2.2.2.2.1 v hv
  · intro v hv
    rw [o5 6 (by omega) (by omega) v hv, o5 8 (by omega) (by omega) v hv, o5 11 (by omega) (by omega) v hv]
    exact hV.2.2.2.2.2.2.1 v hv
  · intro i v hi hv
    rw [k 25 (by decide) (by decide) (by decide) (by decide) (by decide), hV.2.2.2.2.2.2.2.2.2.2.2.2 i v hi hv]
    unfold zAn
    rw [zid_ev (fun v hv => o5 9 (by omega) (by omega) v hv) _ (Nat.le_refl _)]
    exact (zFd_ev (j 2 (by decide) (by decide) (by decide) (by decide) (by decide)) (j 5 (by decide) (by decide) (by decide) (by decide) (by decide)) (k 16 (by decide) (by decide) (by decide) (by decide) (by decide)) (k 17 (by decide) (by decide) (by decide) (by decide) (by decide)) (k 18 (by decide) (by decide) (by decide) (by decide) (by decide)) (k 19 (by decide) (by decide) (by decide) (by decide) (by decide)) (k 21 (by decide) (by decide) (by decide) (by decide) (by decide)) (show 0 < lg.length by omega) hlv (fun v hv => o5 7 (by omega) (by omega) v hv) (fun v hv => o5 8 (by omega) (by omega) v hv) (fun v hv => o5 9 (by omega) (by omega) v hv) (fun v hv => o5 10 (by omega) (by omega) v hv) v 10).symm
end EVC
section ZKP
variable {X : zX} {x : Nat} {ad fo eo : Nat → Nat} {mo : Nat → Nat → Nat} {c : Nat → Nat × Nat × Nat} {pt : Nat → Nat} {fi : Nat → Int32} {fa : Nat → Nat → Int32} {lg : List Nat} {M P : Nat} {np sz : Nat → Nat} {g g' : zG} {Q : Nat → Prop}
/-- the class's things stay when nothing of theirs may change -/
theorem zWd.keep (h : zWd X x ad fo eo mo c pt fi fa lg M P np sz g) (hM : M ≤ 6) (e : zFe Q g g') (h1 : ∀ k, Q k → ¬ (k < 10)) (h2 : ∀ k, Q k → ¬ (64 ≤ k ∧ k < 70) ∧ ¬ (80 ≤ k ∧ k < 98)) (h3 : ∀ k, Q k → ¬ (1050 ≤ k ∧ k < 1058)) : zWd X x ad fo eo mo c pt fi fa lg M P np sz g' := by
  obtain ⟨⟨b1, b2, b3, b4, ⟨l, l1, l2, l3⟩, b6, b7, ⟨f, b8⟩, ⟨l9, b9⟩, b10⟩, wm⟩ := h
  have kk (j : Nat) (hj : j < 10) : ¬ Q j := fun z => h1 j z hj
  have kl (j : Nat) (hj : 64 ≤ j ∧ j < 70) : ¬ Q j := fun z => (h2 j z).1 hj
  have km (j : Nat) (hj : 80 ≤ j ∧ j < 98) : ¬ Q j := fun z => (h2 j z).2 hj
  have kn (j : Nat) (hj : 1050 ≤ j ∧ j < 1058) : ¬ Q j := fun z => h3 j z hj
  refine ⟨⟨e.1 1 (kk 1 (by omega)) _ _ b1, e.2.1 50 (kn 1050 (by omega)) _ _ b2, b3.fe e (kl 64 (by omega)) (kk 4 (by omega)), b4.fe e (kl 65 (by omega)) (kk 4 (by omega)), ⟨l, l1, l2.fe e (kl 66 (by omega)), fun kd hkd => zTr.fr e (kk 5 (by omega)) 14 _ _ _ _ (l3 kd hkd) (fun b l r fs k1 _ _ _ _ => ⟨e.1 2 (kk 2 (by omega)) _ _ k1, rfl⟩)⟩, b6.fe e (kl 67 (by omega)), b7.fe e (kl 68 (by omega)), ⟨f, e.2.1 51 (kn 1051 (by omega)) _ _ b8⟩, ⟨l9, b9.fe e (kl 69 (by omega))⟩, b10.fe e (kk 7 (by omega))⟩, fun i hi => ?_⟩
  obtain ⟨a1, ⟨q, a2⟩, a3⟩ := wm i hi
  exact ⟨a1.fe (by omega) e (kk 1 (by omega)) (kk 7 (by omega)) (kk 8 (by omega)) (kk 9 (by omega)) (km _ (by omega)) (kn _ (by omega)), ⟨q, a2.fe e (km _ (by omega))⟩, a3.fe e (km _ (by omega)) (kk 6 (by omega))⟩
end ZKP
