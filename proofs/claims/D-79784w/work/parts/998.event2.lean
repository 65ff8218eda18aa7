set_option maxRecDepth 100000
section EV2
variable {X : zX} {d : Nat} {x : Nat} {ad fo eo : Nat → Nat} {mo : Nat → Nat → Nat} {c : Nat → Nat × Nat × Nat} {pt pt' : Nat → Nat} {fi fi' : Nat → Int32} {fa fa' : Nat → Nat → Int32} {lg : List Nat} {M P : Nat} {np sz : Nat → Nat} {B : Nat} {g g' : zG} {Q : Nat → Prop} {K : Option Value → zG → Prop} {KX : String → zG → Prop}
/-- what come leaves, in the model's words -/
theorem zRR_ev (hl : lg.length ≤ 79) (hlv : ∀ v ∈ lg, v < lg.length) {a a4 t k8 : Nat} {ix vl : Int32} {c' : Nat → Nat × Nat × Nat} (hJ : zWj fo mo M P np sz) (hz : zGz g + zpT pt ≤ B)
    (hW : zWb X x ad fo (fun v => if v = lg.length then a else eo v) mo c' pt (zcf fi (nI t)) (zc2 fa lg.length (nI a4) (nI t) (nI k8) ix vl (if nI t < fi 5 then 1 else 0)) (zlg fa lg (nI a4) (nI t)) M P sz g)
    (hN : ∀ i, i < M → zWg X x ad (mo i) fo pt (zcf fi (nI t)) (zc2 fa lg.length (nI a4) (nI t) (nI k8) ix vl (if nI t < fi 5 then 1 else 0)) (np i) i (ztk (zc2 fa lg.length (nI a4) (nI t) (nI k8) ix vl (if nI t < fi 5 then 1 else 0)) (zAn (zcf fi (nI t)) (zc2 fa lg.length (nI a4) (nI t) (nI k8) ix vl (if nI t < fi 5 then 1 else 0)) i (np i) (zlg fa lg (nI a4) (nI t)) (lg.length + 1)) i lg.length (lg.length + 1)) (lg.length + 1) (zkq (zc2 fa lg.length (nI a4) (nI t) (nI k8) ix vl (if nI t < fi 5 then 1 else 0)) (zAn (zcf fi (nI t)) (zc2 fa lg.length (nI a4) (nI t) (nI k8) ix vl (if nI t < fi 5 then 1 else 0)) i (np i) (zlg fa lg (nI a4) (nI t)) (lg.length + 1)) i (lg.length + 1)) (zsq (zc2 fa lg.length (nI a4) (nI t) (nI k8) ix vl (if nI t < fi 5 then 1 else 0)) (zAn (zcf fi (nI t)) (zc2 fa lg.length (nI a4) (nI t) (nI k8) ix vl (if nI t < fi 5 then 1 else 0)) i (np i) (zlg fa lg (nI a4) (nI t)) (lg.length + 1)) (nI (lg.length + 1)) i lg.length (lg.length + 1)) g)
    (h : zev fi fa lg M np (nI a4) (nI t) (nI k8) ix vl fi' fa') : zRR X x fi' fa' (zlg fa lg (nI a4) (nI t)) M P np sz B g := by
  obtain ⟨e1, e2, e3⟩ := zev_n h
  obtain ⟨fi1, fa1, ⟨z1, z2, z3⟩, k1, k2, k3, k4, k5⟩ := h
  have e5 : (va_up fi 34 0) 5 = fi 5 := va_up_ne _ _ (by decide)
  rw [e5] at z2
  generalize hF : zc2 fa lg.length (nI a4) (nI t) (nI k8) ix vl (if nI t < fi 5 then 1 else 0) = FA at *
  have hn1 : (zlg fa lg (nI a4) (nI t)).length = lg.length + 1 := zlg_len _ _ _ _
  have i0 : fi' 1 = zcf fi (nI t) 1 ∧ fi' 2 = zcf fi (nI t) 2 ∧ fi' 4 = zcf fi (nI t) 4 ∧ fi' 5 = zcf fi (nI t) 5 := ⟨e1 1 (by decide) (by decide) (by decide) (by decide) (by decide) (by decide), e1 2 (by decide) (by decide) (by decide) (by decide) (by decide) (by decide), e1 4 (by decide) (by decide) (by decide) (by decide) (by decide) (by decide), by rw [e2]; unfold zcf; rw [va_up_self]⟩
  have ff (j : Nat) (j1 : j ≠ 12) (j2 : j ≠ 24) (j3 : j ≠ 25) (j4 : j ≠ 26) (j5 : j ≠ 28) (j6 : j ≠ 30) (j7 : j ≠ 32) (j8 : j ≠ 33) : fa' j = FA j := e3 j j1 j2 j3 j4 j5 j6 j7 j8
  have mem : ∀ v ∈ zlg fa lg (nI a4) (nI t), v < (zlg fa lg (nI a4) (nI t)).length := fun v hv => by
    rw [hn1]
    rcases (zlg_mem _ _ _ _ _).mp hv with h | h
    · omega
    · have := hlv v h
      omega
  have hfi1 : fi1 2 = zcf fi (nI t) 2 ∧ fi1 5 = zcf fi (nI t) 5 := by
    rw [z1]
    unfold zc1 zcf
    exact ⟨by rw [va_up_ne _ _ (by decide), va_up_ne _ _ (by decide), va_up_ne _ _ (by decide), va_up_ne _ _ (by decide)], by rw [va_up_ne _ _ (by decide), va_up_self, va_up_self, e5]⟩
  have hans : ∀ i, zAn fi1 fa1 i (np i) (zlg fa lg (nI a4) (nI t)) (lg.length + 1) = zAn (zcf fi (nI t)) FA i (np i) (zlg fa lg (nI a4) (nI t)) (lg.length + 1) := fun i => zAn_sa ⟨hfi1.1, hfi1.2, z2 7 (by decide), z2 8 (by decide), z2 9 (by decide), z2 10 (by decide), z2 16 (by decide), z2 17 (by decide), z2 18 (by decide), z2 19 (by decide), z2 21 (by decide)⟩
  refine ⟨ad, fo, _, mo, c', pt, ⟨hW.cg mem i0 (ff 0 (by decide) (by decide) (by decide) (by decide) (by decide) (by decide) (by decide) (by decide)) (fun j j1 j2 v _ => by rw [ff j (by omega) (by omega) (by omega) (by omega) (by omega) (by omega) (by omega) (by omega)]) (fun j j1 j2 p _ => by rw [ff j (by omega) (by omega) (by omega) (by omega) (by omega) (by omega) (by omega) (by omega)]), fun i hi => ?_⟩, hJ, hz⟩
  rw [hn1]
  refine (hN i hi).kn' i0 (fun j j1 j2 => ff j (by omega) (by omega) (by omega) (by omega) (by omega) (by omega) (by omega) (by omega)) (ff 21 (by decide) (by decide) (by decide) (by decide) (by decide) (by decide) (by decide) (by decide)) (ff 22 (by decide) (by decide) (by decide) (by decide) (by decide) (by decide) (by decide) (by decide)) ?_ (fun v hv => ?_) (fun v hv => ?_)
  · rw [k5 i, if_pos hi]
    show ztk fa1 (zAn fi1 fa1 i (np i) (zlg fa lg (nI a4) (nI t)) (lg.length + 1)) i lg.length (lg.length + 1) = _
    rw [hans i]
    exact ztk_cg (z2 24 (by decide)) (z2 25 (by decide)) _
  · rw [k3 i v (by omega), if_pos ⟨hi, hv⟩]
    show zAn fi1 fa1 i (np i) (zlg fa lg (nI a4) (nI t)) (lg.length + 1) v = _
    rw [hans i]
  · rw [k4 i v (by omega)]
    show (if i < M ∧ v < lg.length + 1 ∧ (lg.length ≤ v ∨ ¬ fa1 25 (80 * i + v) = zAn fi1 fa1 i (np i) (zlg fa lg (nI a4) (nI t)) (lg.length + 1) v) then nI (lg.length + 1) else fa1 26 (80 * i + v)) = _
    rw [hans i, z2 25 (by decide), z2 26 (by decide)]
    by_cases cc : lg.length ≤ v ∨ ¬ FA 25 (80 * i + v) = zAn (zcf fi (nI t)) FA i (np i) (zlg fa lg (nI a4) (nI t)) (lg.length + 1) v
    · rw [if_pos cc, if_pos ⟨hi, hv, cc⟩]
    · rw [if_neg cc, if_neg (fun z => cc z.2.2)]
theorem zPy_c : ∀ k, zPy k → zPc k := fun k hk => by
  unfold zPy zPz at hk
  unfold zPc
  omega
/-- event -/
theorem cs_event (hok : zOk X) (hV : zPv fi fa lg M P np sz) (hR : zRR X x fi fa lg M P np sz B g) (hB : B + 3000 ≤ zz X) {x1 x2 x3 x4 x5 : Int32} {D : Nat} (hD : 120 ≤ D)
    (h1 : zxc fi fa x1 x2 x3 x4 x5 = 0 → lg.length ≤ 79 → ∀ a4 : Nat, a4 < 4 → x1 = nI a4 → ∀ g' : zG, zFe zPc g g' → (∀ fi' fa', zev fi fa lg M np (nI a4) (x2 + fa 0 a4) x3 x4 x5 fi' fa' → zRR X x fi' fa' (zlg fa lg (nI a4) (x2 + fa 0 a4)) M P np sz (B + 2000) g' ∧ zPv fi' fa' (zlg fa lg (nI a4) (x2 + fa 0 a4)) M P np sz) → K (some (.int (nI lg.length))) g')
    (hx : ∀ (cd : Int32) (s : String), zxc fi fa x1 x2 x3 x4 x5 = cd → (cd = 1 ∧ s = RJ9) ∨ (cd = 2 ∧ s = RJ12) ∨ (cd = 3 ∧ s = RJ13) → KX s (zSz g (zGz g + 7))) : zCal X D yX1_event wX1_event [.ref x, .int x1, .int x2, .int x3, .int x4, .int x5] g K KX := by
  obtain ⟨d, rfl⟩ : ∃ d, D = d + 1 := ⟨D - 1, by omega⟩
  obtain ⟨ad, fo, eo, mo, c, pt, hW, hJ, hz⟩ := hR
  obtain ⟨w1, w2, w3, -⟩ := id hW.1
  have hLg := hV.1
  have hMo := hV.2.2.1
  refine mX1_event (d := d) hok x _ _ _ _ _ ⟨⟨1, _, w1, rfl⟩, cx_comer hok hV w1 w2 w3 (by omega) (by omega) (fun h0 a4 t k8 b1 b2 b3 b4 b5 b6 b7 b8 b9 a g1 e1 e2 => ?_) hx⟩
  subst b2 b5
  have h1 := h1 h0 b9 a4 b1 rfl
  rw [b3] at h1
  have f1 : zFe (fun _ => False) g g1 := by
    rw [e2]
    exact zFe.new e1 _
  have z1 : zGz g1 = zGz g + 8 := by rw [e2]; rfl
  have ha : zGo g1 4 a = some [.int (nI lg.length), .int (nI t), .int (nI a4), .int (nI k8), .int x4, .int x5, .int (if nI t < fi 5 then 1 else 0)] := by rw [e2, zSz_o, zSo_o, zup_s]
  have hW1 : zWd X x ad fo eo mo c pt fi fa lg M P np sz g1 := ⟨hW.1.fe f1 (fun _ _ _ _ _ _ => id) (fun _ _ _ => id) id id, fun i hi => (hW.2 i hi).fe (by have := hMo.1; omega) f1 (fun _ _ _ _ => id) id id id id⟩
  refine ⟨a, rfl, ⟨1, _, hW1.1.1, rfl⟩, cx_come hok hV hJ b9 hW1 b4 b6 b8 ha (by omega) (by omega) (fun g2 pt2 c2 u1 u2 u3 u4 => ⟨rfl, ?_⟩)⟩
  have hn1 : (zlg fa lg (nI a4) (nI t)).length = lg.length + 1 := zlg_len _ _ _ _
  obtain ⟨-, -, v3, -⟩ := id u3
  have hev := v3.2 lg.length (by rw [hn1]; omega)
  rw [show (fun v => if v = lg.length then a else eo v) lg.length = a from if_pos rfl] at hev
  refine ⟨_, _, hev, rfl, ?_⟩
  refine h1 g2 ((f1.mono (fun _ h => h.elim)).trans (u1.mono zPy_c)) (fun fi' fa' h => ⟨?_, zPv_ev hV b9 b1 b4 b6 b7 b8 h⟩)
  exact zRR_ev b9 hLg.2.2.2.1 hJ (by omega) u3 u4 h
end EV2
