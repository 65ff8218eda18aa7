set_option maxRecDepth 100000
theorem zsame_b {s s' : State} {locs : List Loc} {cells slots : Nat} (h : s.sameButNew s' locs cells slots) : s.heap.size ≤ s'.heap.size ∧ s'.heap.size ≤ s.heap.size + cells ∧ zsl s'.heap ≤ zsl s.heap + slots := by
  obtain ⟨h1, h2, h3, h4, h5, h6⟩ := h
  have hd := zsl_drop (A := s.heap) (B := s'.heap) h2 (fun a c hc => by
    obtain ⟨c', q1, -, q3, -⟩ := h6 a c hc
    exact ⟨c', q1, q3⟩)
  exact ⟨h2, h3, by omega⟩
/-- a word that goes along: a good one, a cast, a declaration -/
def zgo (w : Cond) : Bool := goodWord w || match w with
  | .castable _ _ => true
  | .declares _ => true
  | _ => false
section ZTH
variable {X : zX} {d : Nat} {E : zM} {own : String} {cc : ByteArray} {nL : Nat} {ret : Option FieldType} {nm : String} {g : zG} {H : Heap} {locs : List Loc} {ls : Array Slot} {pc : Nat} {rest st0 : List Value} {lc : List (Nat × Value)} {K : Option Value → zG → Prop} {KX : String → zG → Prop}
theorem zC.word (C : zC X d E own cc nL ret nm) {w : Cond} (h : w ∈ lw_tbl) (hg : zgo w = true) : w.before (za E) (zS E) = true := by
  by_cases hgw : goodWord w = true
  · exact C.ts _ (lw_g h hgw)
  · unfold zgo at hg
    rw [Bool.not_eq_true] at hgw
    rw [hgw, Bool.false_or] at hg
    split at hg
    · exact va_Nw.use rfl (C.nestC h)
    · exact va_Nw.use rfl (va_Nw.warmD C.wm (va_Nw.of rfl (C.ok.2.1 _ h)))
    · cases hg
theorem zC.words (C : zC X d E own cc nL ret nm) (ws : List Cond) (ps : List Nat) (h : ws.all (fun w => zgo w && ps.any (fun i => decide (lw_tbl[i]? = some w))) = true) : ∀ w ∈ ws, w.before (za E) (zS E) = true := by
  intro w hw
  have h1 := List.all_eq_true.mp h w hw
  rw [Bool.and_eq_true] at h1
  obtain ⟨i, -, hi⟩ := List.any_eq_true.mp h1.2
  exact C.word (List.mem_of_getElem? (of_decide_eq_true hi)) h1.1
theorem zRep.keep {g2 : zG} {H1 : Heap} (hR : zRep X g H) (ho : ∀ q : Nat, q < H.size → H1[q]? = H[q]?) (hs : H.size ≤ H1.size) (hz : H1.size + zsl H1 ≤ zGz g2 ∧ zGz g2 ≤ zz X) (hg : zGo g2 = zGo g ∧ zGi g2 = zGi g ∧ zGq g2 = zGq g ∧ zGj g2 = zGj g) : zRep X g2 H1 := by
  obtain ⟨hA, hZ, ws, ty, hP, hD, h1, h2, h3, h4⟩ := hR
  obtain ⟨e1, e2, e3, e4⟩ := hg
  refine ⟨⟨Nat.le_trans hA.1 hs, fun q hq => by rw [ho q (Nat.lt_of_lt_of_le hq hA.1)]; exact hA.2 q hq⟩, hz, ws, ty, hP.kept (fun k q hk => ho _ (hP k q hk).lt), hD, ?_, ?_, ?_, ?_⟩
  · rw [e1]; exact h1
  · rw [e2]; exact h2
  · rw [e3]; exact h3
  · rw [e4]; exact h4
theorem z_throw (C : zC X (d + 6) E own cc nL ret nm) (hQ : zQ X E K KX) (hR : zRep X g H) (hS : va_S (zA X) (zS E).heap H locs) (hl : lv_has ls nL lc) {cls text : String} {names : List String} {ik is ic sa : Nat}
    (hcls : Bundle.fit cls = true) (hnames : ∀ n ∈ names, Bundle.fit n = true) (hn : names.length ≤ 2) (hk : Cond.classLink own ik cls ∈ lw_all) (hini : Cond.initialized cls ∈ lw_all) (hstr : vk_R own is text sa (zS E)) (ps : List Nat)
    (hat : (vx_atS own ic cls names).all (fun w => zgo w && ps.any (fun i => decide (lw_tbl[i]? = some w))) = true) (hgood : (Cond.classLink own ik cls :: Cond.initialized cls :: vx_atS own ic cls names).all vx_ot = true)
    (d0 : decode cc pc = .ok (.new ik, 3)) (d3 : decode cc (pc + 3) = .ok (.dup, 1)) (d4 : decode cc (pc + 4) = .ok (.ldc_w is, 3)) (d7 : decode cc (pc + 7) = .ok (.invokespecial ic, 3)) (d10 : decode cc (pc + 10) = .ok (.athrow, 1))
    (hcat : (rest.map fun v => v.category).sum ≤ 8) (hz : zGz g + 7 ≤ zz X) (h : KX cls (zSz g (zGz g + 7))) : zV X E H locs (F0 (zm E) pc ls rest) := by
  refine zV.bound fun b1 b2 => ?_
  obtain ⟨r1, r2⟩ := zroom C hR (n := 6) (by omega) b1 b2
  have hfr := C.frames
  have hlo := C.locals
  have hpl : (zl X).stackTraces = false := by
    have := C.ok.2.2.1
    simp [Launch.stackTraces, this, flags0]
    try decide
  have w := vx_throwSW (p := zp E) (l := zl X) (e := ze E) (R := zR E) (s := zS E) (m := zm E) (args := za E) (below := zb E) (meth := zh E) (c := zc E) (H := H) (locs := locs) (ls := ls) (rest := rest) (cells := H.size - (zS E).heap.size) (slots := zsl H - zsl (zS E).heap) (Qc := fun _ _ _ _ => False) (XC := fun x st t => x = cls ∧ H.size ≤ t.heap.size ∧ ∀ q : Nat, q < H.size → t.heap[q]? = H[q]?) (mc := H.size - (zS E).heap.size + 1) (ms := zsl H - zsl (zS E).heap + 6) (free := zA X)
    C.x C.b hpl C.ow hcls hnames (C.ts _ hk) (C.ts _ hini) hstr (C.words _ ps hat) (List.all_eq_true.mp hgood) C.st.2.2.2.2.2.2.2.2.1.1 C.st.2.2.2.2.2.2.2.2.1.2 hS (hl.1.trans C.ml.symm) d0 d3 d4 d7 d10 (fun x hx => absurd hx (fun h => hQ.2.1 x h)) (by omega) (by omega) r1 r2 C.lk (fun t ht h1 h2 => ⟨rfl, h1, h2⟩) hS.2.2 (Nat.le_refl _) (Nat.le_refl _)
  intro T hT X1
  obtain ⟨t, st, o, hrun, hend, hq⟩ := w T hT X1
  refine ⟨t, st, ?_⟩
  rw [hQ.2.2]
  refine ⟨o, hrun, hend, ?_⟩
  rcases hq with ⟨hf, -⟩ | ⟨q, rfl, x, ce, L, ⟨rfl, h1, h2⟩, h3, h4, h5, h6, h7, h8⟩
  · exact hf.elim
  · obtain ⟨z1, z2, z3⟩ := zsame_b h7
    have z1 : (zS E).heap.size ≤ t.heap.size := z1
    have z2 : t.heap.size ≤ (zS E).heap.size + (H.size - (zS E).heap.size + 1) := z2
    have z3 : zsl t.heap ≤ zsl (zS E).heap + (zsl H - zsl (zS E).heap + 6) := z3
    have hr := hR.2.1
    have hm := hQ.1
    unfold zms at hm ⊢
    refine Or.inr ⟨q, rfl, x, ce, L, ⟨⟨zSz g (zGz g + 7), hR.keep h2 h1 ⟨by show _ ≤ zGz g + 7; omega, by show zGz g + 7 ≤ _; omega⟩ ⟨rfl, rfl, rfl, rfl⟩, h⟩, z1⟩, h3, h4, h5, h6, ?_, h8⟩
    exact h7.mono (by omega) (by omega)
end ZTH
def zps : List Nat := [83, 84, 85, 86, 89, 90, 116, 117, 220, 221, 222, 559, 560, 561, 616, 620, 621, 622, 623, 624, 625, 626, 627, 628, 629, 630, 631, 632, 633, 634, 635, 636, 637, 638, 639, 640, 641, 642, 643, 644, 645, 646, 647, 648, 649, 650, 651, 652, 653, 654, 655, 656, 657, 658, 659, 660, 661, 662, 663, 664, 665, 666, 667, 669, 670, 671, 672, 673, 674, 675, 676, 677, 678, 679, 680, 681, 682, 683, 684, 685, 686, 693, 707, 708, 709, 710, 711, 712, 713, 714, 715, 717, 718, 719, 723, 724, 725, 726, 727, 728, 729, 730, 731, 733, 734, 735, 736, 737, 738, 749, 761, 762, 763, 764, 765, 766, 767, 768, 769, 771, 772, 773, 774, 775, 776, 842, 1043, 1050, 1071, 2144, 2154, 2160, 2161, 2162, 2175]
theorem zex1 : (vx_atS RX1 289 RJ9 ["java/lang/RuntimeException", "java/lang/Exception"]).all (fun w => zgo w && zps.any (fun i => decide (lw_tbl[i]? = some w))) = true := by decide +kernel
