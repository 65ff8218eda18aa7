set_option maxRecDepth 100000
section LF2
variable {X : zX} {d : Nat} {x : Nat} {fi : Nat → Int32} {fa : Nat → Nat → Int32} {lg : List Nat} {M P : Nat} {np sz : Nat → Nat} {B : Nat} {g g' : zG} {K : Option Value → zG → Prop} {KX : String → zG → Prop}
/-- valueIs -/
theorem cs_valueIs (hok : zOk X) (hV : zPv fi fa lg M P np sz) (hR : zRR X x fi fa lg M P np sz B g) (hB : B + 3000 ≤ zz X) {v u : Int32} {D : Nat} (hD : 120 ≤ D)
    (h1 : ¬ zIn v 0 2 = 0 → ¬ zIn u (-1000) 1000 = 0 → P < 8 → ∀ g2 : zG, zFe zPc g g2 → zRR X x (zp1 (va_up fi 34 0) (zsum sz P) (P + 1)) (zp2 fa (zsum sz P) 1 v u 1 P) lg M (P + 1) np (zsu sz P 1) (B + 2000) g2 → zPv (zp1 (va_up fi 34 0) (zsum sz P) (P + 1)) (zp2 fa (zsum sz P) 1 v u 1 P) lg M (P + 1) np (zsu sz P 1) → K (some (.int (nI (P + 1)))) g2)
    (hx : ∀ s : String, ((zIn v 0 2 = 0 ∨ zIn u (-1000) 1000 = 0) ∧ s = RJ12) ∨ (¬ zIn v 0 2 = 0 ∧ ¬ zIn u (-1000) 1000 = 0 ∧ ¬ P < 8 ∧ s = RJ13) → ∀ g2 : zG, zFe zPc g g2 → zRR X x fi fa lg M P np sz (B + 2000) g2 → KX s g2) : zCal X D yX1_valueIs wX1_valueIs [.ref x, .int v, .int u] g K KX := by
  obtain ⟨d, rfl⟩ : ∃ d, D = d + 9 := ⟨D - 9, by omega⟩
  have hM6 := hV.2.2.1.1
  have hR0 := hR
  obtain ⟨ad, fo, eo, mo, c, pt, hW, hJ, hz⟩ := hR
  have ch : (zIn v 0 2 = 0 ∨ zIn u (-1000) 1000 = 0) → zCal X (d + 8) yX1_check wX1_check [.int 0] g (fun r g_3 => r = none ∧ False) KX := fun h => sp_check (d := d + 2) hok (fun z => absurd rfl z) (fun _ => ⟨by omega, hx RJ12 (Or.inl ⟨h, rfl⟩) _ (zFe.sz _) ((hR0.up hM6 7).mono (by omega))⟩)
  refine mX1_valueIs (d := d + 8) hok x v u (cx_isIn hok ⟨_, rfl, zIn_bo _ _ _, fun z => ch (Or.inl z), fun n1 => cx_isIn hok ⟨_, rfl, zIn_bo _ _ _, fun z => ch (Or.inr z), fun n2 => sp_check (d := d + 2) hok (fun _ => ⟨rfl, 7, rfl, by omega, fun a hfr g1 e1 => ?_⟩) (fun z => absurd z (by decide))⟩⟩)
  have h0 : zGo g1 7 a = some [.null, .int 0, .int 0, .null, .null, .int 0, .int 0] := by rw [e1, zSz_o, zSo_o, zup_s]
  refine cp_Formula (d := d + 7) hok h0 (r1 := none) (r2 := none) (s1 := 0) (s2 := 0) rfl rfl (by simp) (by simp) ⟨rfl, ?_⟩
  have e2 : zSo g1 7 a [.ref (zE X 1), .int v, .int u, va_rf none, va_rf none, .int (1 + 0 + 0), .int 0] = zSz (zSo g 7 a [.ref (zE X 1), .int v, .int u, .null, .null, .int 1, .int 0]) (zGz g + 1 + 7) := by
    rw [e1, zSo_sz, zSo_so]
    rfl
  rw [e2]
  generalize e3 : zSz (zSo g 7 a [.ref (zE X 1), .int v, .int u, .null, .null, .int 1, .int 0]) (zGz g + 1 + 7) = g3
  have f3 : zFe (fun _ => False) g g3 := by
    rw [← e3]
    exact zFe.new hfr _
  have z3' : zGz g3 = zGz g + 8 := by rw [← e3]; rfl
  obtain ⟨k, hk, e⟩ := zIn_N n1 (show (2 : Int32).toInt = (2 : Nat) by decide)
  obtain ⟨u1, u2⟩ := zIn_t n2
  rw [show (-1000 : Int32).toInt = -1000 by decide] at u1
  rw [show (1000 : Int32).toInt = 1000 by decide] at u2
  have hv : v = 0 ∨ v = 1 ∨ v = 2 := by
    have : k = 0 ∨ k = 1 ∨ k = 2 := by omega
    rcases this with rfl | rfl | rfl
    · exact Or.inl e
    · exact Or.inr (Or.inl e)
    · exact Or.inr (Or.inr e)
  refine ⟨⟨1, _, f3.1 1 id _ _ hW.1.1, rfl⟩, cx_put (w := 1) (n := v) (b := u) hok hV hJ hW (by omega) (by decide) hfr e3.symm (fun _ => ⟨hv, u1, u2⟩) (fun z => absurd rfl z) (by omega) (by omega) (fun hP g2 b1 b2 b3 => ⟨_, rfl, h1 n1 n2 hP g2 ((f3.mono (fun _ h => h.elim)).trans (b1.mono (fun k hk => by unfold zPc; omega))) (b2.mono (by omega)) b3⟩) (fun hP => hx RJ13 (Or.inr ⟨n1, n2, hP, rfl⟩) _ ((f3.mono (fun _ h => h.elim)).trans (zFe.sz _)) ?_)⟩
  have := zRR.new (B := B + 8) hM6 hW hJ f3 (by omega)
  exact (this.up hM6 7).mono (by omega)
end LF2
