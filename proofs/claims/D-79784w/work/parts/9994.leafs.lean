set_option maxRecDepth 100000
section LFS
variable {X : zX} {d : Nat} {x : Nat} {fi : Nat → Int32} {fa : Nat → Nat → Int32} {lg : List Nat} {M P : Nat} {np sz : Nat → Nat} {B : Nat} {g g' : zG} {K : Option Value → zG → Prop} {KX : String → zG → Prop}
/-- kindIs -/
theorem cs_kindIs (hok : zOk X) (hV : zPv fi fa lg M P np sz) (hR : zRR X x fi fa lg M P np sz B g) (hB : B + 3000 ≤ zz X) {v : Int32} {D : Nat} (hD : 120 ≤ D)
    (h1 : ¬ zIn v 0 7 = 0 → P < 8 → ∀ g2 : zG, zFe zPc g g2 → zRR X x (zp1 (va_up fi 34 0) (zsum sz P) (P + 1)) (zp2 fa (zsum sz P) 0 v 0 1 P) lg M (P + 1) np (zsu sz P 1) (B + 2000) g2 → zPv (zp1 (va_up fi 34 0) (zsum sz P) (P + 1)) (zp2 fa (zsum sz P) 0 v 0 1 P) lg M (P + 1) np (zsu sz P 1) → K (some (.int (nI (P + 1)))) g2)
    (hx : ∀ s : String, (zIn v 0 7 = 0 ∧ s = RJ12) ∨ (¬ zIn v 0 7 = 0 ∧ ¬ P < 8 ∧ s = RJ13) → ∀ g2 : zG, zFe zPc g g2 → zRR X x fi fa lg M P np sz (B + 2000) g2 → KX s g2) : zCal X D yX1_kindIs wX1_kindIs [.ref x, .int v] g K KX := by
  obtain ⟨d, rfl⟩ : ∃ d, D = d + 9 := ⟨D - 9, by omega⟩
  have hM6 := hV.2.2.1.1
  have hR0 := hR
  obtain ⟨ad, fo, eo, mo, c, pt, hW, hJ, hz⟩ := hR
  refine mX1_kindIs (d := d + 8) hok x v (cx_isIn hok ⟨_, rfl, zIn_bo _ _ _, sp_check (d := d + 2) hok (fun n1 => ⟨rfl, 7, rfl, by omega, fun a hfr g1 e1 => ?_⟩) (fun z => ⟨by omega, hx RJ12 (Or.inl ⟨z, rfl⟩) _ (zFe.sz _) ((hR0.up hM6 7).mono (by omega))⟩)⟩)
  have h0 : zGo g1 7 a = some [.null, .int 0, .int 0, .null, .null, .int 0, .int 0] := by rw [e1, zSz_o, zSo_o, zup_s]
  refine cp_Formula (d := d + 7) hok h0 (r1 := none) (r2 := none) (s1 := 0) (s2 := 0) rfl rfl (by simp) (by simp) ⟨rfl, ?_⟩
  have e2 : zSo g1 7 a [.ref (zE X 0), .int v, .int 0, va_rf none, va_rf none, .int (1 + 0 + 0), .int 0] = zSz (zSo g 7 a [.ref (zE X 0), .int v, .int 0, .null, .null, .int 1, .int 0]) (zGz g + 1 + 7) := by
    rw [e1, zSo_sz, zSo_so]
    rfl
  rw [e2]
  generalize e3 : zSz (zSo g 7 a [.ref (zE X 0), .int v, .int 0, .null, .null, .int 1, .int 0]) (zGz g + 1 + 7) = g3
  have f3 : zFe (fun _ => False) g g3 := by
    rw [← e3]
    exact zFe.new hfr _
  have z3' : zGz g3 = zGz g + 8 := by rw [← e3]; rfl
  refine ⟨⟨1, _, f3.1 1 id _ _ hW.1.1, rfl⟩, cx_put (w := 0) (n := v) (b := 0) hok hV hJ hW (by omega) (by decide) hfr e3.symm (fun z => absurd z (by decide)) (fun _ => Or.inr ⟨0, by omega, nI_0.symm⟩) (by omega) (by omega) (fun hP g2 b1 b2 b3 => ⟨_, rfl, h1 n1 hP g2 ((f3.mono (fun _ h => h.elim)).trans (b1.mono (fun k hk => by unfold zPc; omega))) (b2.mono (by omega)) b3⟩) (fun hP => hx RJ13 (Or.inr ⟨n1, hP, rfl⟩) _ ((f3.mono (fun _ h => h.elim)).trans (zFe.sz _)) ?_)⟩
  have := zRR.new (B := B + 8) hM6 hW hJ f3 (by omega)
  exact (this.up hM6 7).mono (by omega)
end LFS
