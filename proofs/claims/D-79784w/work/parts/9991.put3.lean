set_option maxRecDepth 100000
section PU3
variable {X : zX} {x : Nat} {ad fo eo : Nat → Nat} {mo : Nat → Nat → Nat} {c : Nat → Nat × Nat × Nat} {pt : Nat → Nat} {fi : Nat → Int32} {fa : Nat → Nat → Int32} {lg : List Nat} {M P : Nat} {np sz : Nat → Nat} {g g' : zG}
/-- the class's things, with a formula put -/
theorem zWd.put (hW : zWd X x ad fo eo mo c pt fi fa lg M P np sz g) (hlv : ∀ v ∈ lg, v < lg.length) (hM6 : M ≤ 6) (e : zFe (fun k => k = 67) g g') {a s P' S p' : Nat} {w n b : Int32} (hq : zsum sz P < 192) (hsum : zsum (zsu sz (P - s) S) P' = zsum sz P + 1)
    (hL : zLs X g' 67 (ad 8) ((List.range P').map (fun j => (fun r => if r = zsum sz P then a else fo r) (zsum (zsu sz (P - s) S) (j + 1) - 1))) p') {y : Int32} (ha : zGo g' 7 a = some (zff X (zp2 fa (zsum sz P) w n b (nI S) (P - s)) 0 (fun r => if r = zsum sz P then a else fo r) (zsum sz P) y)) :
    zWd X x ad (fun r => if r = zsum sz P then a else fo r) eo mo c (zpu pt 67 p') (zp1 (va_up fi 34 0) (zsum sz P) P') (zp2 fa (zsum sz P) w n b (nI S) (P - s)) lg M P' np (zsu sz (P - s) S) g' := by
  obtain ⟨⟨b1, b2, b3, b4, ⟨l, l1, l2, l3⟩, b6, b7, ⟨f, b8⟩, ⟨l9, b9⟩, b10⟩, wm⟩ := hW
  have i0 : (zp1 (va_up fi 34 0) (zsum sz P) P') 1 = fi 1 ∧ (zp1 (va_up fi 34 0) (zsum sz P) P') 2 = fi 2 ∧ (zp1 (va_up fi 34 0) (zsum sz P) P') 4 = fi 4 ∧ (zp1 (va_up fi 34 0) (zsum sz P) P') 5 = fi 5 := ⟨rfl, rfl, rfl, rfl⟩
  have fo192 : ∀ r, 192 ≤ r → (fun r => if r = zsum sz P then a else fo r) r = fo r := fun r hr => if_neg (by omega)
  have oth : ∀ j, j < 14 ∨ 19 < j → zp2 fa (zsum sz P) w n b (nI S) (P - s) j = fa j := fun j hj => by
    unfold zp2 zp3
    rw [va_up_ne _ _ (by omega), va_up_ne _ _ (by omega), va_up_ne _ _ (by omega), va_up_ne _ _ (by omega), va_up_ne _ _ (by omega)]
  obtain ⟨f16, f17, f18, f19, -⟩ := zp2_16 (fa := fa) (zsum sz P) w n b (nI S) (P - s)
  have hi : ∀ j, 16 ≤ j → j ≤ 19 → ∀ r, r ≠ zsum sz P → zp2 fa (zsum sz P) w n b (nI S) (P - s) j r = fa j r := fun j j1 j2 r hr => by
    have : j = 16 ∨ j = 17 ∨ j = 18 ∨ j = 19 := by omega
    rcases this with rfl | rfl | rfl | rfl
    · rw [f16, pk_un hr]
    · rw [f17, pk_un hr]
    · rw [f18, pk_un hr]
    · rw [f19, pk_un hr]
  refine ⟨⟨by rw [zxs_c i0]; exact e.1 1 (by omega) _ _ b1, by rw [oth 0 (by omega)]; exact e.2.1 50 (by omega) _ _ b2, ?_, ?_, ⟨l, l1, by rw [zpu_n _ _ (by omega)]; exact l2.fe e (by omega), fun kd hkd => ?_⟩, by rw [zpu_s]; exact hL, by rw [zpu_n _ _ (by omega)]; exact b7.fe e (by omega), ⟨f, e.2.1 51 (by omega) _ _ b8⟩, ⟨l9, by rw [zpu_n _ _ (by omega)]; exact b9.fe e (by omega)⟩, ?_⟩, fun i hi' => ?_⟩
  · rw [zpu_n _ _ (by omega)]
    have := b3.fe e (by omega) (by omega)
    exact ⟨this.1, fun v hv => by rw [zef_c (n := lg.length) (fun j j1 j2 v _ => by rw [oth j (by omega)]) hv]; exact this.2 v hv⟩
  · rw [zpu_n _ _ (by omega)]
    have := b4.fe e (by omega) (by omega)
    exact ⟨this.1, fun v hv => by rw [zef_c (n := lg.length) (fun j j1 j2 v _ => by rw [oth j (by omega)]) (hlv v hv)]; exact this.2 v hv⟩
  · rw [zEk_c (fa := fa) (fun j j1 j2 v _ => by rw [oth j (by omega)])]
    exact zTr.fr e (by omega) 14 _ _ _ _ (l3 kd hkd) (fun b l r fs k1 _ _ _ _ => ⟨e.1 2 (by omega) _ _ k1, rfl⟩)
  · rw [hsum]
    exact zFo_put b10 e (by omega) ha
  · have h1 : zWg X x ad (mo i) fo pt fi fa (np i) i (fa 24 i) lg.length (fun v => fa 25 (80 * i + v)) (fun v => fa 26 (80 * i + v)) g := wm i hi'
    have h2 := h1.fe (by omega) e (by omega) (by omega) (by omega) (by omega) (by omega) (by omega) (by omega) (by omega) (by omega)
    have h3 := h2.gp (pt' := zpu pt 67 p') (zpu_n _ _ (by omega)) (zpu_n _ _ (by omega))
    have h4 := h3.cg (fi' := zp1 (va_up fi 34 0) (zsum sz P) P') (fa' := zp2 fa (zsum sz P) w n b (nI S) (P - s)) i0 (fun j j1 j2 p _ => hi j j1 j2 _ (by omega)) (by rw [oth 21 (by omega)]) (by rw [oth 22 (by omega)])
    have ef : (fun p => (fun r => if r = zsum sz P then a else fo r) (192 + 24 * i + p)) = fun p => fo (192 + 24 * i + p) := by
      funext p
      exact fo192 _ (by omega)
    unfold zWm
    rw [ef, oth 24 (by omega), oth 25 (by omega), oth 26 (by omega)]
    exact h4
end PU3
