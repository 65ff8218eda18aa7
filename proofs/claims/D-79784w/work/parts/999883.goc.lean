set_option maxRecDepth 100000
/-- what going through the orders may change -/
def zPo (k : Nat) : Prop := k = 10 ∨ k = 72 ∨ k = 1051 ∨ (80 ≤ k ∧ k < 98) ∨ (1052 ≤ k ∧ k < 1058)
/-- the Orders object -/
def zOo (bl : Nat) (mr er : Option Nat) (w : Int32) (s : Nat × Nat) (x : Nat) : List Value := [.ref bl, va_rf mr, va_rf er, .int w, .int (nI s.1), .int (nI s.2), .ref x]
section GOC
variable {X : zX} {d : Nat} {K : Option Value → zG → Prop} {KX : String → zG → Prop} {g : zG}
variable {x : Nat} {ad fo eo : Nat → Nat} {mo : Nat → Nat → Nat} {c : Nat → Nat × Nat × Nat} {fi : Nat → Int32} {fa : Nat → Nat → Int32} {lg : List Nat} {M P : Nat} {np sz : Nat → Nat}
/-- go, from a row on: n events are to come -/
def zGoS (X : zX) (x : Nat) (ad fo eo : Nat → Nat) (mo : Nat → Nat → Nat) (c : Nat → Nat × Nat × Nat) (fi : Nat → Int32) (fa : Nat → Nat → Int32) (lg : List Nat) (M P : Nat) (np sz : Nat → Nat) (o bl : Nat) (mr er : Option Nat) (w : Int32) (ok : List Nat → Bool) (n : Nat) : Prop :=
  ∀ (pre : List Nat) (D : Nat) (g : zG) (pt : Nat → Nat) (pb : Nat) (s : Nat × Nat) (K : Option Value → zG → Prop) (KX : String → zG → Prop), n + 112 ≤ D → pre.length + n = lg.length → pre.Nodup → (∀ u ∈ pre, u ∈ lg) → (∀ j, j < pre.length → fa 7 (zr pre j) = fa 7 (zr lg j)) → s.1 ≤ 120 → zGz g + zpT pt + pb + 500 ≤ zz X → zWd X x ad fo eo mo c pt fi fa lg M P np sz g → zLs X g 72 bl (pre.map eo) pb → zGo g 10 o = some (zOo bl mr er w s x) →
    (∀ (g' : zG) (pt' : Nat → Nat) (pb' : Nat), zFe zPo g g' → zGz g' + zpT pt' + pb' ≤ zGz g + zpT pt + pb → zWd X x ad fo eo mo c pt' fi fa lg M P np sz g' → zLs X g' 72 bl (pre.map eo) pb' → zGo g' 10 o = some (zOo bl mr er w (zpq ok (zgg fa lg n pre) s) x) → K none g') → zCal X D yX10_go wX10_go [.ref o] g K KX
theorem zpq_stop2 {ok : List Nat → Bool} {L : List (List Nat)} {s : Nat × Nat} (h : 120 < (zpq ok L s).1) (M : List (List Nat)) : zpq ok (L ++ M) s = zpq ok L s := by
  rw [zpq_app, zpq_stop ok h]
theorem cx_go_s (hok : zOk X) (hlg : ∀ v ∈ lg, v < lg.length) (h80 : lg.length ≤ 80) {o bl pb q : Nat} {mr er : Option Nat} {w : Int32} {s : Nat × Nat} {pre : List Nat} {pt : Nat → Nat} (hq : q < 4) (hsub : ∀ u ∈ pre, u ∈ lg) (hW : zWd X x ad fo eo mo c pt fi fa lg M P np sz g) (hB : zLs X g 72 bl (pre.map eo) pb) (ho : zGo g 10 o = some (zOo bl mr er w s x)) {E : zM} (C : zC X (d + 4) E RX10 cX10_go 6 none "go") (hQ : zQ X E K KX)
    (hK : GW X E 6 g 141 [(0, .ref o), (1, .int (fa 7 (zr lg pre.length))), (2, .int (nI q)), (3, va_rf ((lg.find? (znx fa lg pre q)).map eo)), (4, .int (nI 0 + (-1)))] []) : ∀ k : Nat, k ≤ lg.length → GW X E 6 g 141 [(0, .ref o), (1, .int (fa 7 (zr lg pre.length))), (2, .int (nI q)), (3, va_rf (((lg.drop k).find? (znx fa lg pre q)).map eo)), (4, .int (nI k + (-1)))] []
  | 0, _ => by
    rw [List.drop_zero]
    exact hK
  | k + 1, hk => by
    have ih := cx_go_s hok hlg h80 hq hsub hW hB ho C hQ hK k (by omega)
    have hkl : k < lg.length := by omega
    have hd : lg.drop k = zr lg k :: lg.drop (k + 1) := by
      rw [zr_el hkl]
      exact List.drop_eq_getElem_cons hkl
    have hmem := zr_mem hkl
    obtain ⟨w1, -, -, w4, -⟩ := id hW.1
    have hev := w4.2 _ hmem
    rw [pk_m1]
    refine bX10_go_141 (d := d + 3) C hQ g _ _ _ _ _ ⟨fun z => absurd z (nI_pos (by omega)), fun _ => ⟨_, _, ho, rfl, _, _, w1, rfl, w4.1.is (by omega), ls_getm (d := d + 1) hok w4.1 (by omega) hkl ⟨_, rfl, _, rfl, ⟨4, _, hev, rfl⟩, _, _, hev, rfl, fun c1 => ?_, fun c1 => ⟨_, _, hev, rfl, fun c2 => ?_, fun c2 => ⟨_, _, ho, rfl, hB.is (by omega), ls_contains (d := d) hok hB (by omega) ⟨4, _, hev, rfl⟩ ⟨_, rfl, ?_, fun c3 => ?_, fun c3 => ?_⟩⟩⟩⟩⟩⟩
    · rw [hd, List.find?_cons_of_neg (by unfold znx zny; simp [c1])] at ih
      exact ih
    · rw [hd, List.find?_cons_of_neg (by unfold znx zny; simp [c2])] at ih
      exact ih
    · by_cases z : eo (zr lg k) ∈ pre.map eo
      · rw [if_pos z]
        exact Or.inr rfl
      · rw [if_neg z]
        exact Or.inl rfl
    · have hin : eo (zr lg k) ∈ pre.map eo := by
        by_cases z : eo (zr lg k) ∈ pre.map eo
        · exact z
        · rw [if_neg z] at c3
          exact absurd rfl c3
      obtain ⟨u, hu, e⟩ := List.mem_map.mp hin
      have hul := hsub u hu
      have : u = zr lg k := zef_inj (w4.2 u hul) hev (by have := hlg u hul; omega) (by have := hlg _ hmem; omega) e
      rw [hd, List.find?_cons_of_neg (by unfold znx zny; simp [this ▸ hu])] at ih
      exact ih
    · have hin : ¬ zr lg k ∈ pre := fun z => by
        rw [if_pos (List.mem_map_of_mem z)] at c3
        exact absurd c3 (by decide)
      rw [hd, List.find?_cons_of_pos (by unfold znx zny; simp [c1, c2, hin])] at ih
      exact ih
/-- what the nodes from one on give -/
def zgrR (fa : Nat → Nat → Int32) (lg : List Nat) (F : List Nat → List (List Nat)) (pre : List Nat) : Nat → List (List Nat)
  | 0 => []
  | 1 => zgq fa lg F pre 3
  | 2 => zgq fa lg F pre 2 ++ zgq fa lg F pre 3
  | 3 => zgq fa lg F pre 1 ++ (zgq fa lg F pre 2 ++ zgq fa lg F pre 3)
  | _ => zgq fa lg F pre 0 ++ (zgq fa lg F pre 1 ++ (zgq fa lg F pre 2 ++ zgq fa lg F pre 3))
theorem cx_go_q (hok : zOk X) (hM6 : M ≤ 6) (hlg : ∀ v ∈ lg, v < lg.length) (h80 : lg.length ≤ 80) {o bl : Nat} {mr er : Option Nat} {w : Int32} {ok : List Nat → Bool} {n : Nat} (ih : zGoS X x ad fo eo mo c fi fa lg M P np sz o bl mr er w ok n) {pre : List Nat} {s0 : Nat × Nat} (hd : n + 112 ≤ d + 3) (hs0 : s0.1 ≤ 120) (hlen : pre.length + (n + 1) = lg.length) (hnd : pre.Nodup) (hsub : ∀ u ∈ pre, u ∈ lg) (htm : ∀ j, j < pre.length → fa 7 (zr pre j) = fa 7 (zr lg j)) {B : Nat} (hB : B + 500 ≤ zz X) {E : zM} (C : zC X (d + 4) E RX10 cX10_go 6 none "go") (hQ : zQ X E K KX) {g0 : zG}
    (hK : ∀ (g' : zG) (pt' : Nat → Nat) (pb' : Nat), zFe zPo g0 g' → zGz g' + zpT pt' + pb' ≤ B → zWd X x ad fo eo mo c pt' fi fa lg M P np sz g' → zLs X g' 72 bl (pre.map eo) pb' → zGo g' 10 o = some (zOo bl mr er w (zpq ok (zgg fa lg (n + 1) pre) s0) x) → K none g') : ∀ (cc q : Nat) (g : zG) (pt : Nat → Nat) (pb : Nat) (L R : List (List Nat)), 4 = q + cc → zgg fa lg (n + 1) pre = L ++ R → (R = zgrR fa lg (zgg fa lg n) pre cc) → zFe zPo g0 g → zGz g + zpT pt + pb ≤ B → zWd X x ad fo eo mo c pt fi fa lg M P np sz g → zLs X g 72 bl (pre.map eo) pb → zGo g 10 o = some (zOo bl mr er w (zpq ok L s0) x) →
    GW X E 6 g 109 [(0, .ref o), (1, .int (fa 7 (zr lg pre.length))), (2, .int (nI q))] []
  | 0, q, g, pt, pb, L, R, hc, hLR, hR, hF, hz, hW, hL, ho => by
    have : q = 4 := by omega
    subst this
    refine bX10_go_109 (d := d + 3) C hQ g _ _ _ ⟨fun _ => hK g pt pb hF hz hW hL ?_, fun z => absurd (show (4 : Int32) ≤ nI 4 by decide) z⟩
    rw [hLR, hR, show zgrR fa lg (zgg fa lg n) pre 0 = [] from rfl, List.append_nil]
    exact ho
  | cc + 1, q, g, pt, pb, L, R, hc, hLR, hR, hF, hz, hW, hL, ho => by
    have hq : q < 4 := by omega
    obtain ⟨w1, -, -, w4, -⟩ := id hW.1
    have h121 : (zpq ok L s0).1 ≤ 121 := by
      rw [zpq_1 ok L s0 (by omega)]
      split <;> omega
    -- what is to come: this node's, and the others'
    obtain ⟨R', hR', hRR⟩ : ∃ R', R = zgq fa lg (zgg fa lg n) pre q ++ R' ∧ (R' = zgrR fa lg (zgg fa lg n) pre cc) := by
      have : (q = 0 ∧ cc = 3) ∨ (q = 1 ∧ cc = 2) ∨ (q = 2 ∧ cc = 1) ∨ (q = 3 ∧ cc = 0) := by omega
      rcases this with ⟨rfl, rfl⟩ | ⟨rfl, rfl⟩ | ⟨rfl, rfl⟩ | ⟨rfl, rfl⟩
      · exact ⟨_, hR, rfl⟩
      · exact ⟨_, hR, rfl⟩
      · exact ⟨_, hR, rfl⟩
      · exact ⟨[], by rw [List.append_nil]; exact hR, rfl⟩
    have next : ∀ (g2 : zG) (pt2 : Nat → Nat) (pb2 : Nat) (L2 : List (List Nat)), L2 = L ++ zgq fa lg (zgg fa lg n) pre q → zFe zPo g0 g2 → zGz g2 + zpT pt2 + pb2 ≤ B → zWd X x ad fo eo mo c pt2 fi fa lg M P np sz g2 → zLs X g2 72 bl (pre.map eo) pb2 → zGo g2 10 o = some (zOo bl mr er w (zpq ok L2 s0) x) → GW X E 6 g2 109 [(0, .ref o), (1, .int (fa 7 (zr lg pre.length))), (2, .int (nI q + 1))] [] := fun g2 pt2 pb2 L2 e0 e1 e2 e3 e4 e5 => by
      rw [← nI_succ]
      exact cx_go_q hok hM6 hlg h80 ih hd hs0 hlen hnd hsub htm hB C hQ hK cc (q + 1) g2 pt2 pb2 L2 R' (by omega) (by rw [hLR, hR', e0, List.append_assoc]) hRR e1 e2 e3 e4 e5
    refine bX10_go_109 (d := d + 3) C hQ g _ _ _ ⟨fun z => absurd z (show ¬ (nI 4 : Int32) ≤ nI q from nI_ge hq (by omega)), fun _ => ⟨_, _, ho, rfl, fun c1 => hK g pt pb hF hz hW hL ?_, fun c1 => ⟨_, _, ho, rfl, _, _, w1, rfl, w4.1.is (by omega), ls_size hok w4.1 (by omega) ⟨_, rfl, ?_⟩⟩⟩⟩
    · have : 120 < (zpq ok L s0).1 := by
        by_cases z : 120 < (zpq ok L s0).1
        · exact z
        · exact absurd c1 (show ¬ (nI 120 : Int32) < nI (zpq ok L s0).1 from nI_nlt (by omega) (by omega))
      rw [hLR, zpq_stop2 this]
      exact ho
    have hm : (zpq ok L s0).1 ≤ 120 := by
      by_cases z : 120 < (zpq ok L s0).1
      · exact absurd (show (nI 120 : Int32) < nI (zpq ok L s0).1 from nI_lt z (by omega)) c1
      · omega
    rw [List.length_map, Int32.sub_eq_add_neg]
    have hst := cx_go_s (d := d) (q := q) hok hlg h80 hq hsub hW hL ho C hQ ?_ lg.length (Nat.le_refl _)
    · rw [List.drop_length] at hst
      exact hst
    rw [show (nI 0 + (-1) : Int32) = -1 from by decide +kernel]
    refine bX10_go_141 (d := d + 3) C hQ g _ _ _ _ _ ⟨fun _ => ⟨fun z => ?_, fun a z => ?_⟩, fun z => absurd (show (-1 : Int32) < 0 by decide) z⟩
    · have hn : lg.find? (znx fa lg pre q) = none := Option.map_eq_none_iff.mp z
      refine next g pt pb L ?_ hF hz hW hL ho
      unfold zgq
      rw [hn, List.append_nil]
    · obtain ⟨v, hv, rfl⟩ := Option.map_eq_some_iff.mp z
      have hp := List.find?_some hv
      have hvl := List.mem_of_find?_eq_some hv
      unfold znx zny at hp
      simp only [Bool.and_eq_true, beq_iff_eq, Bool.not_eq_true'] at hp
      obtain ⟨hp1, hp2, hp3⟩ := hp
      have hp3 : ¬ v ∈ pre := by simpa using hp3
      have hg : zgq fa lg (zgg fa lg n) pre q = zgg fa lg n (pre ++ [v]) := by
        unfold zgq
        rw [hv]
      have hev := w4.2 v hvl
      have hob : ∀ y ∈ pre.map eo, zob g y := fun y hy => by
        obtain ⟨u, hu, rfl⟩ := List.mem_map.mp hy
        exact zob_e (w4.2 u (hsub u hu))
      obtain ⟨d', rfl⟩ : ∃ d', d = d' + 3 := ⟨d - 3, by omega⟩
      refine ⟨_, _, ho, rfl, hL.is (by omega), ls_add (d := d') hok hL (by omega) (zob_e hev) hob (by rw [List.length_map]; omega) (by omega) (fun g1 p1 a1 a2 a3 => ⟨_, rfl, Or.inr rfl, ?_⟩)⟩
      have f1 := a2.fe (by omega)
      have hW1 : zWd X x ad fo eo mo c pt fi fa lg M P np sz g1 := hW.keep hM6 f1 (fun k h => by omega) (fun k h => by omega) (fun k h => by omega)
      have ho1 := f1.1 10 (by omega) _ _ ho
      have L1 : zLs X g1 72 bl ((pre ++ [v]).map eo) p1 := by
        rw [List.map_append]
        exact a1
      refine ⟨⟨10, _, ho1, rfl⟩, ih (pre ++ [v]) _ g1 pt p1 (zpq ok L s0) _ _ hd (by rw [List.length_append, List.length_singleton]; omega) ?_ ?_ ?_ hm (by omega) hW1 L1 ho1 (fun g2 pt2 pb2 b1 b2 b3 b4 b5 => ⟨rfl, _, _, b5, rfl, _, _, b5, rfl, b4.is (by omega), ls_size hok b4 (by omega) ⟨_, rfl, b4.is (by omega), ?_⟩⟩)⟩
      · exact List.nodup_append.mpr ⟨hnd, by simp, fun a ha b hb e => hp3 (by rw [← List.mem_singleton.mp hb, ← e]; exact ha)⟩
      · intro u hu
        rcases List.mem_append.mp hu with h | h
        · exact hsub u h
        · rw [List.mem_singleton.mp h]
          exact hvl
      · intro j hj
        rw [List.length_append, List.length_singleton] at hj
        by_cases cj : j < pre.length
        · rw [zr_app_l cj]
          exact htm j cj
        · have : j = pre.length := by omega
          rw [this, zr_app pre v []]
          exact hp1
      · have e : nI (((pre ++ [v]).map eo).length) - 1 = nI pre.length := by
          rw [List.length_map, List.length_append, List.length_singleton, nI_pred]
        rw [e]
        refine ls_remove (d := d' + 4) hok b4 (by omega) (by rw [List.length_map, List.length_append, List.length_singleton]; omega) (fun y hy => ?_) (fun g3 c1 c2 => ⟨some _, rfl, ?_⟩)
        · obtain ⟨u, hu, rfl⟩ := List.mem_map.mp hy
          obtain ⟨-, -, -, w42, -⟩ := id b3.1
          rcases List.mem_append.mp hu with h | h
          · exact zob_e (w42.2 u (hsub u h))
          · rw [List.mem_singleton.mp h]
            exact zob_e (w42.2 v hvl)
        · have f3 := c2.fe (by omega)
          have z3 : zGz g3 = zGz g2 := c2.2.2
          have e2 : ((pre ++ [v]).map eo).eraseIdx pre.length = pre.map eo := by
            rw [List.map_append, List.eraseIdx_append_of_length_le (by rw [List.length_map]; exact Nat.le_refl _), List.length_map, Nat.sub_self]
            exact List.append_nil _
          rw [e2] at c1
          refine next g3 pt2 pb2 (L ++ zgq fa lg (zgg fa lg n) pre q) rfl (((hF.trans (f1.mono (fun k hk => Or.inr (Or.inl hk)))).trans b1).trans (f3.mono (fun k hk => Or.inr (Or.inl hk)))) (by omega) (b3.keep hM6 f3 (fun k h => by omega) (fun k h => by omega) (fun k h => by omega)) c1 ?_
          rw [zpq_app, hg]
          exact f3.1 10 (by omega) _ _ b5
theorem cx_go (hok : zOk X) (hM6 : M ≤ 6) (hlg : ∀ v ∈ lg, v < lg.length) (h80 : lg.length ≤ 80) {o bl : Nat} {mr er : Option Nat} {w : Int32} {ok : List Nat → Bool} (h0 : zGoS X x ad fo eo mo c fi fa lg M P np sz o bl mr er w ok 0) : ∀ n : Nat, zGoS X x ad fo eo mo c fi fa lg M P np sz o bl mr er w ok n
  | 0 => h0
  | n + 1 => by
    have ih := cx_go hok hM6 hlg h80 h0 n
    intro pre D g pt pb s K KX hD hlen hnd hsub htm hs hz hW hL ho hK
    obtain ⟨d, rfl⟩ : ∃ d, D = d + 4 := ⟨D - 4, by omega⟩
    obtain ⟨w1, -, -, w4, -⟩ := id hW.1
    have hpl : pre.length < lg.length := by omega
    have hev := w4.2 _ (zr_mem hpl)
    refine mX10_go (d := d + 3) hok o (fun E C hQ => ⟨_, _, ho, rfl, hL.is (by omega), ls_size hok hL (by omega) ⟨_, rfl, _, _, ho, rfl, _, _, w1, rfl, w4.1.is (by omega), ls_size hok w4.1 (by omega) ⟨_, rfl, fun _ => ⟨_, _, ho, rfl, _, _, w1, rfl, _, _, ho, rfl, hL.is (by omega), ls_size hok hL (by omega) ⟨_, rfl, w4.1.is (by omega), ?_⟩⟩, fun z => ?_⟩⟩⟩)
    · rw [List.length_map]
      refine ls_getm (d := d + 1) hok w4.1 (by omega) hpl ⟨_, rfl, _, rfl, ⟨4, _, hev, rfl⟩, _, _, hev, rfl, ?_⟩
      rw [show (0 : Int32) = nI 0 from nI_0.symm]
      exact cx_go_q (d := d) (g0 := g) (B := zGz g + zpT pt + pb) hok hM6 hlg h80 ih (by omega) hs hlen hnd hsub htm (by omega) C hQ (fun g' pt' pb' e1 e2 e3 e4 e5 => hK g' pt' pb' e1 e2 e3 e4 e5) 4 0 g pt pb [] (zgg fa lg (n + 1) pre) rfl rfl rfl (zFe.rf _ _) (Nat.le_refl _) hW hL ho
    · rw [List.length_map, List.length_map] at z
      have := (nI_eq (by omega) (by omega)).mp z
      omega
end GOC
