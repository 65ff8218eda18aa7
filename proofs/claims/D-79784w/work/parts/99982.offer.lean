set_option maxRecDepth 100000
section OF1
variable {X : zX} {d : Nat} {x : Nat} {ad fo eo : Nat → Nat} {mo : Nat → Nat → Nat} {c : Nat → Nat × Nat × Nat} {pt pt' : Nat → Nat} {fi fi' : Nat → Int32} {fa fa' : Nat → Nat → Int32} {lg : List Nat} {M P : Nat} {np sz : Nat → Nat} {B : Nat} {g g' : zG} {Q : Nat → Prop} {K : Option Value → zG → Prop} {KX : String → zG → Prop}
theorem cx_isBarred (hok : zOk X) (hV : zPv fi fa lg M P np sz) (hJ : zWj fo mo M P np sz) (hl : lg.length ≤ 79) (hW : zWd X x ad fo eo mo c pt fi fa lg M P np sz g) {a t k8 : Nat} {nd ix vl lt : Int32} (ht : t ≤ 11000) (hvl : -1000 ≤ vl.toInt ∧ vl.toInt ≤ 1000) (ha : zGo g 4 a = some [.int (nI lg.length), .int (nI t), .int nd, .int (nI k8), .int ix, .int vl, .int lt]) (hz : zGz g + zpT pt + 3000 ≤ zz X) {D : Nat} (hD : 110 ≤ D)
    (hK : ∀ (g' : zG) (pt' : Nat → Nat), zFe zPq g g' → zGz g' + zpT pt' ≤ zGz g + zpT pt + 2200 → zWd X x ad fo eo mo c pt' fi fa lg M P np sz g' → K (some (.int (zbI (zgA (zcf fi (nI t)) (zc2 fa lg.length nd (nI t) (nI k8) ix vl lt) (zlg fa lg nd (nI t)) np M)))) g') : zCal X D yX1_isBarred wX1_isBarred [.ref x, .ref a] g K KX := by
  obtain ⟨d, rfl⟩ : ∃ d, D = d + 8 := ⟨D - 8, by omega⟩
  have hM6 := hV.2.2.1.1
  have hlv := hV.1.2.2.2.1
  have hLi := hV.2.2.2.2.1
  obtain ⟨w1, -, w3, w4, -, -, w7, -⟩ := id hW.1
  refine mX1_isBarred (d := d + 7) hok x a (fun E C hQ => ⟨70, zkc_0 (by omega), by omega, fun al hfr g1 e1 => ?_⟩)
  have f1 : zFe (fun _ => False) g g1 := by
    rw [e1]
    exact zFe.new hfr _
  have z1 : zGz g1 = zGz g + 4 := by rw [e1]; rfl
  obtain ⟨⟨mc, cap, hL65, hcap⟩, hE⟩ := w4.fe f1 id id
  have hob : ∀ y ∈ lg.map eo, zob g1 y := fun y hy => by
    obtain ⟨v, hv, rfl⟩ := List.mem_map.mp hy
    exact zob_e (hE v hv)
  refine ⟨_, _, f1.1 1 id _ _ w1, rfl, sp_linit2 (d := d + 3) (t := 65) (t' := 70) hok (by omega) (by omega) (by omega) hL65 (q := al) (by rw [e1, zSz_o, zSo_o, zup_s]) (by omega) (by rw [List.length_map]; omega) hob (fun g2 b1 b2 _ b3 => ⟨rfl, ?_⟩)⟩
  rw [List.length_map] at b1 b3
  have f2 := b2.fe (by omega)
  have f02 : zFe (fun k => k = 70) g g2 := (f1.mono (fun _ h => h.elim)).trans f2
  have ha2 := f02.1 4 (by omega) _ _ ha
  have hE2 : ∀ v ∈ lg, zGo g2 4 (eo v) = some (zef fa v) := fun v hv => f2.1 4 (by omega) _ _ (hE v hv)
  have hpot : zpot lg.length ≤ 2000 := by unfold zpot; omega
  refine cx_insert hok (tl := 70) (by omega) ha2 ⟨_, _, b1, Nat.le_refl _⟩ hE2 hlv (by omega) (by omega) (by omega) (by omega) (fun g3 q3 c1 c2 c3 => ⟨rfl, ?_⟩)
  have f3 := c2.fe (by omega)
  have f03 := f02.trans f3
  have x3 := f03.1 1 (by omega) _ _ w1
  have ha3 := f03.1 4 (by omega) _ _ ha
  refine ⟨_, _, x3, rfl, _, _, x3, rfl, _, _, ha3, rfl, sp_max hok ⟨_, rfl, _, x3, by simp [zxs], fun g4 e4 => ?_⟩⟩
  have f4 : zFe (fun k => k = 1) g3 g4 := by
    rw [e4]
    exact zFe.so rfl
  have x4 : zGo g4 1 x = some (zxs ad (zcf fi (nI t))) := by
    rw [e4, zSo_o, zup_s]
    rfl
  have z4 : zGz g4 = zGz g3 := by rw [e4]; rfl
  have f04 : zFe (fun k => k = 1 ∨ k = 70) g g4 := (f03.mono (fun k hk => Or.inr hk)).trans (f4.mono (fun k hk => Or.inl hk))
  have hW3 := hW.keep hM6 f03 (fun k h => by omega) (fun k h => by omega) (fun k h => by omega)
  have hW4 : zWd X x ad fo eo mo c pt (zcf fi (nI t)) fa lg M P np sz g4 := hW3.nx hM6 f4 x4 (fun k hk h1 _ _ => by omega) (fun k _ _ => by omega) (fun k _ _ => by omega)
  obtain ⟨mc8, cap8, hL8, hp8⟩ := hW4.1.2.2.2.2.2.2.1
  have hc1 := c1.fe f4 (by omega)
  refine ⟨_, _, x4, rfl, hL8.is (by omega), it_iterator hok hL8 (by omega) (by omega) (by omega) (fun q5 g5 _ i1 i2 i3 => ⟨q5, rfl, ?_⟩)⟩
  have hi : ∀ j, j < 6 ∨ 11 < j → zc2 fa lg.length nd (nI t) (nI k8) ix vl lt j = fa j := fun j hj => zc2_o fa lg.length nd (nI t) (nI k8) ix vl lt hj
  have old : ∀ j v, v < lg.length → zc2 fa lg.length nd (nI t) (nI k8) ix vl lt j v = fa j v := fun j v hv => zc2_v fa lg.length nd (nI t) (nI k8) ix vl lt hv
  have nef : zef (zc2 fa lg.length nd (nI t) (nI k8) ix vl lt) lg.length = [.int (nI lg.length), .int (nI t), .int nd, .int (nI k8), .int ix, .int vl, .int lt] := by
    unfold zef zc2 va_up upd
    simp
  have hid : ∀ m, m ≤ lg.length → zid (zc2 fa lg.length nd (nI t) (nI k8) ix vl lt) m = zid fa m := fun m hm => by
    induction m with
    | zero => rfl
    | succ m ih =>
      show zid (zc2 fa lg.length nd (nI t) (nI k8) ix vl lt) m ||| (if zc2 fa lg.length nd (nI t) (nI k8) ix vl lt 9 m = -1 then (0 : Int32) else (1 : Int32) <<< (zc2 fa lg.length nd (nI t) (nI k8) ix vl lt 9 m &&& 31)) = _
      rw [ih (by omega), old 9 m (by omega)]
      rfl
  have eoo : ∀ v, v < lg.length → (fun v => if v = lg.length then a else eo v) v = eo v := fun v hv => if_neg (by omega)
  have hA : zLA X 70 al q3 (fun v => if v = lg.length then a else eo v) (zc2 fa lg.length nd (nI t) (nI k8) ix vl lt) (zlg fa lg nd (nI t)) g5 := by
    refine ⟨?_, fun v hv => ?_⟩
    · have e : (zlg fa lg nd (nI t)).map (fun v => if v = lg.length then a else eo v) = (lg.map eo).insertIdx (zpc fa lg nd (nI t)) a := by
        unfold zlg
        rw [map_ins, if_pos rfl]
        congr 1
        exact List.map_congr_left (fun v hv => eoo v (hlv v hv))
      rw [e]
      exact hc1.fe i2 id
    · rcases zlg_mem'.mp hv with h | h
      · subst h
        show zGo g5 4 (if lg.length = lg.length then a else eo lg.length) = _
        rw [if_pos rfl, nef]
        exact i2.1 4 id _ _ (f04.1 4 (by omega) _ _ ha)
      · have hv' := hlv v h
        show zGo g5 4 (if v = lg.length then a else eo v) = _
        rw [if_neg (by omega), zef_c (fa := fa) (n := lg.length) (fun j _ _ v hv => old j v hv) hv']
        exact i2.1 4 id _ _ (f4.1 4 (by omega) _ _ (f3.1 4 (by omega) _ _ (hE2 v h)))
  have f45 := f04.trans (i2.mono (fun _ h => h.elim))
  have hx5 : zxs ad (va_up (zcf fi (nI t)) 5 (fi 5)) = zxs ad fi := zxs_c ⟨rfl, rfl, rfl, rfl⟩
  have e0 : (0 : Int32) = zbI (zgd (fa 22) (fun i => zAn (zcf fi (nI t)) (zc2 fa lg.length nd (nI t) (nI k8) ix vl lt) i (np i) (zlg fa lg nd (nI t)) (lg.length + 1)) (fun i e => fa 25 (80 * i + e)) (lg.length + 1) 0) := rfl
  rw [e0]
  refine cx_barred_l (d := d + 7) (g0 := g) (B := zGz g + zpT pt + 2200) hok (n := lg.length) (FA := zc2 fa lg.length nd (nI t) (nI k8) ix vl lt) (fi1 := zcf fi (nI t)) hl hM6 rfl hi (by unfold zc2 va_up upd; simp) (hid _ (Nat.le_refl _)) (zLi_ins hLi hlv hl ht hvl) (fun i hi => (hV.2.2.2.2.2.2.2.1 i hi).1) hJ.1 (fun g1 h => by rw [hx5] at h; exact h) (by omega) (by omega) C hQ (fun g6 pt6 k1 k2 k3 => ?_) M 0 g5 pt (by omega) (f45.mono (fun k hk => by unfold zPq; omega)) (by omega) ⟨hW4.1.fe i2 (fun _ _ _ _ _ _ => id) (fun _ _ _ => id) id id, fun i hi => (hW4.2 i hi).fe (by omega) i2 (fun _ _ _ _ => id) id id id id⟩ (f45.1 4 (by omega) _ _ ha) hA zlg_len' (hL8.fe i2 id) i1
  have := hK g6 pt6 k1 k2 k3
  unfold zgA at this
  rw [zlg_len', hi 22 (by omega), hi 25 (by omega)] at this
  exact this
/-- offer -/
theorem cs_offer (hok : zOk X) (hV : zPv fi fa lg M P np sz) (hR : zRR X x fi fa lg M P np sz B g) (hB : B + 8000 ≤ zz X) {x1 x2 x3 x4 x5 : Int32} {D : Nat} (hD : 120 ≤ D)
    (h1 : zxc fi fa x1 x2 x3 x4 x5 = 0 → lg.length ≤ 79 → ∀ a4 : Nat, a4 < 4 → x1 = nI a4 → (∀ fi1 fa1, zcm (va_up fi 34 0) fa lg (nI a4) (x2 + fa 0 a4) x3 x4 x5 fi1 fa1 → zgA fi1 fa1 (zlg fa lg (nI a4) (x2 + fa 0 a4)) np M = false) → ∀ g' : zG, zFe zPc g g' → (∀ fi' fa', zev fi fa lg M np (nI a4) (x2 + fa 0 a4) x3 x4 x5 fi' fa' → zRR X x fi' fa' (zlg fa lg (nI a4) (x2 + fa 0 a4)) M P np sz (B + 5000) g' ∧ zPv fi' fa' (zlg fa lg (nI a4) (x2 + fa 0 a4)) M P np sz) → K (some (.int (nI lg.length))) g')
    (h2 : zxc fi fa x1 x2 x3 x4 x5 = 0 → lg.length ≤ 79 → ∀ a4 : Nat, a4 < 4 → x1 = nI a4 → (∀ fi1 fa1, zcm (va_up fi 34 0) fa lg (nI a4) (x2 + fa 0 a4) x3 x4 x5 fi1 fa1 → zgA fi1 fa1 (zlg fa lg (nI a4) (x2 + fa 0 a4)) np M = true) → ∀ g' : zG, zFe zPc g g' → (∀ fi' fa', zof fi fa lg fi' fa' → zRR X x fi' fa' lg M P np sz (B + 5000) g' ∧ zPv fi' fa' lg M P np sz) → K (some (.int (-1))) g')
    (hx : ∀ (cd : Int32) (s : String), zxc fi fa x1 x2 x3 x4 x5 = cd → (cd = 1 ∧ s = RJ9) ∨ (cd = 2 ∧ s = RJ12) ∨ (cd = 3 ∧ s = RJ13) → KX s (zSz g (zGz g + 7))) : zCal X D yX1_offer wX1_offer [.ref x, .int x1, .int x2, .int x3, .int x4, .int x5] g K KX := by
  obtain ⟨d, rfl⟩ : ∃ d, D = d + 1 := ⟨D - 1, by omega⟩
  obtain ⟨ad, fo, eo, mo, c, pt, hW, hJ, hz⟩ := hR
  obtain ⟨w1, w2, w3, -⟩ := id hW.1
  have hLg := hV.1
  have hMo := hV.2.2.1
  have hM6 := hMo.1
  have hlv := hLg.2.2.2.1
  refine mX1_offer (d := d) hok x _ _ _ _ _ ⟨⟨1, _, w1, rfl⟩, cx_comer hok hV w1 w2 w3 (by omega) (by omega) (fun h0 a4 t k8 b1 b2 b3 b4 b5 b6 b7 b8 b9 a g1 e1 e2 => ?_) hx⟩
  subst b2 b5
  have h1 := h1 h0 b9 a4 b1 rfl
  have h2 := h2 h0 b9 a4 b1 rfl
  rw [b3] at h1 h2
  have f1 : zFe (fun _ => False) g g1 := by
    rw [e2]
    exact zFe.new e1 _
  have z1 : zGz g1 = zGz g + 8 := by rw [e2]; rfl
  have ha : zGo g1 4 a = some [.int (nI lg.length), .int (nI t), .int (nI a4), .int (nI k8), .int x4, .int x5, .int (if nI t < fi 5 then 1 else 0)] := by rw [e2, zSz_o, zSo_o, zup_s]
  have hW1 : zWd X x ad fo eo mo c pt fi fa lg M P np sz g1 := ⟨hW.1.fe f1 (fun _ _ _ _ _ _ => id) (fun _ _ _ => id) id id, fun i hi => (hW.2 i hi).fe (by omega) f1 (fun _ _ _ _ => id) id id id id⟩
  refine ⟨a, rfl, ⟨1, _, hW1.1.1, rfl⟩, cx_isBarred hok hV hJ b9 hW1 b4 b8 ha (by omega) (by omega) (fun g2 pt2 u1 u2 u3 => ⟨_, rfl, zbI_b _, ?_⟩)⟩
  have ha2 := u1.1 4 (by unfold zPq; omega) _ _ ha
  -- the same answer as the model's
  have same : ∀ fi1 fa1, zcm (va_up fi 34 0) fa lg (nI a4) (nI t) (nI k8) x4 x5 fi1 fa1 → zgA fi1 fa1 (zlg fa lg (nI a4) (nI t)) np M = zgA (zcf fi (nI t)) (zc2 fa lg.length (nI a4) (nI t) (nI k8) x4 x5 (if nI t < fi 5 then 1 else 0)) (zlg fa lg (nI a4) (nI t)) np M := by
    intro fi1 fa1 ⟨q1, q2, q3⟩
    have e5 : (va_up fi 34 0) 5 = fi 5 := va_up_ne _ _ (by decide)
    rw [e5] at q2
    have hfi1 : fi1 2 = zcf fi (nI t) 2 ∧ fi1 5 = zcf fi (nI t) 5 := by
      rw [q1]
      unfold zc1 zcf
      exact ⟨by rw [va_up_ne _ _ (by decide), va_up_ne _ _ (by decide), va_up_ne _ _ (by decide), va_up_ne _ _ (by decide)], by rw [va_up_ne _ _ (by decide), va_up_self, va_up_self, e5]⟩
    unfold zgA
    rw [q2 22 (by decide), q2 25 (by decide)]
    have : (fun i => zAn fi1 fa1 i (np i) (zlg fa lg (nI a4) (nI t)) (zlg fa lg (nI a4) (nI t)).length) = fun i => zAn (zcf fi (nI t)) (zc2 fa lg.length (nI a4) (nI t) (nI k8) x4 x5 (if nI t < fi 5 then 1 else 0)) i (np i) (zlg fa lg (nI a4) (nI t)) (zlg fa lg (nI a4) (nI t)).length := by
      funext i
      exact zAn_sa ⟨hfi1.1, hfi1.2, q2 7 (by decide), q2 8 (by decide), q2 9 (by decide), q2 10 (by decide), q2 16 (by decide), q2 17 (by decide), q2 18 (by decide), q2 19 (by decide), q2 21 (by decide)⟩
    rw [this]
  refine ⟨fun c1 => ⟨⟨1, _, u3.1.1, rfl⟩, cx_come hok hV hJ b9 u3 b4 b6 b8 ha2 (by omega) (by omega) (fun g3 pt3 c3 v1 v2 v3 v4 => ⟨rfl, ?_⟩)⟩, fun c1 => ⟨_, _, u3.1.1, rfl, _, u3.1.1, by simp [zxs], fun g3 e3 => ?_⟩⟩
  · have hn1 : (zlg fa lg (nI a4) (nI t)).length = lg.length + 1 := zlg_len _ _ _ _
    obtain ⟨-, -, v5, -⟩ := id v3
    have hev := v5.2 lg.length (by rw [hn1]; omega)
    rw [show (fun v => if v = lg.length then a else eo v) lg.length = a from if_pos rfl] at hev
    refine ⟨_, _, hev, rfl, ?_⟩
    refine h1 (fun fi1 fa1 h => ?_) g3 (((f1.mono (fun _ h => h.elim)).trans (u1.mono (fun k hk => by unfold zPq at hk; unfold zPc; omega))).trans (v1.mono zPy_c)) (fun fi' fa' h => ⟨?_, zPv_ev hV b9 b1 b4 b6 b7 b8 h⟩)
    · rw [same fi1 fa1 h]
      generalize zgA (zcf fi (nI t)) (zc2 fa lg.length (nI a4) (nI t) (nI k8) x4 x5 (if nI t < fi 5 then 1 else 0)) (zlg fa lg (nI a4) (nI t)) np M = s at c1
      cases s with
      | false => rfl
      | true => exact absurd c1 (by decide)
    · exact zRR_ev b9 hlv hJ (by omega) v3 v4 h
  · have f3 : zFe (fun k => k = 1) g2 g3 := by
      rw [e3]
      exact zFe.so rfl
    have x3 : zGo g3 1 x = some (zxs ad (va_up fi 4 (fi 4 + 1))) := by
      rw [e3, zSo_o, zup_s]
      rfl
    have z3 : zGz g3 = zGz g2 := by rw [e3]; rfl
    have hW3 : zWd X x ad fo eo mo c pt2 (va_up fi 4 (fi 4 + 1)) fa lg M P np sz g3 := u3.nx hM6 f3 x3 (fun k _ h1 _ _ => h1) (fun k _ _ => by omega) (fun k _ _ => by omega)
    refine h2 (fun fi1 fa1 h => ?_) g3 (((f1.mono (fun _ h => h.elim)).trans (u1.mono (fun k hk => by unfold zPq at hk; unfold zPc; omega))).trans (f3.mono (fun k hk => by unfold zPc; omega))) (fun fi' fa' h => ?_)
    · rw [same fi1 fa1 h]
      generalize zgA (zcf fi (nI t)) (zc2 fa lg.length (nI a4) (nI t) (nI k8) x4 x5 (if nI t < fi 5 then 1 else 0)) (zlg fa lg (nI a4) (nI t)) np M = s at c1
      cases s with
      | true => rfl
      | false => exact absurd rfl c1
    · obtain ⟨o1, o2, o3, o4, o5, o6⟩ := h
      have j (k : Nat) (h1 : k ≠ 4) (h2 : k ≠ 27) (h3 : k ≠ 29) (h4 : k ≠ 31) (h5 : k ≠ 34) : fi' k = fi k := o1 k h1 h2 h3 h4 h5
      have i0 : fi' 1 = (va_up fi 4 (fi 4 + 1)) 1 ∧ fi' 2 = (va_up fi 4 (fi 4 + 1)) 2 ∧ fi' 4 = (va_up fi 4 (fi 4 + 1)) 4 ∧ fi' 5 = (va_up fi 4 (fi 4 + 1)) 5 := ⟨j 1 (by decide) (by decide) (by decide) (by decide) (by decide), j 2 (by decide) (by decide) (by decide) (by decide) (by decide), o2, j 5 (by decide) (by decide) (by decide) (by decide) (by decide)⟩
      have k (q : Nat) (h1 : q < 6 ∨ 12 < q) (h2 : q ≠ 28) (h3 : q ≠ 30) (h4 : q ≠ 32) (h5 : q ≠ 33) : fa' q = fa q := o4 q h1 h2 h3 h4 h5
      refine ⟨⟨ad, fo, eo, mo, c, pt2, ?_, hJ, by omega⟩, ?_⟩
      · exact hW3.cg hlv ⟨i0, k 0 (by decide) (by decide) (by decide) (by decide) (by decide), fun q q1 q2 v hv => o5 q q1 q2 v hv, fun q q1 q2 => ⟨fun p _ => by rw [k q (by omega) (by omega) (by omega) (by omega) (by omega)], fun i p _ _ => by rw [k q (by omega) (by omega) (by omega) (by omega) (by omega)]⟩, fun i hi => ⟨by rw [k 21 (by decide) (by decide) (by decide) (by decide) (by decide)], by rw [k 22 (by decide) (by decide) (by decide) (by decide) (by decide)], by rw [k 24 (by decide) (by decide) (by decide) (by decide) (by decide)], fun v _ => ⟨by rw [k 25 (by decide) (by decide) (by decide) (by decide) (by decide)], by rw [k 26 (by decide) (by decide) (by decide) (by decide) (by decide)]⟩⟩⟩
      · exact zPv_of hV ⟨o1, o2, o3, o4, o5, o6⟩
end OF1
