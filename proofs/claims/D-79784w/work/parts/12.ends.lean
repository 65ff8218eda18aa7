set_option maxRecDepth 100000
section ZEND
variable {X : zX} {d : Nat} {E : zM} {own : String} {cc : ByteArray} {nL : Nat} {ret : Option FieldType} {nm : String} {g : zG} {pc : Nat} {rest : List Value} {lc : List (Nat × Value)} {K : Option Value → zG → Prop} {KX : String → zG → Prop}
/-- the start of a contract's proof: the method's body, at its first instruction -/
theorem z_enter {y : MethodName} {as : List Value} (hok : zOk X) (hy : plainName y.cls = true) (hlen : (lg_sl as).length ≤ nL)
    (body : ∀ E : zM, zC X d E y.cls cc nL ret y.name → zQ X E K KX → GW X E nL g 0 (lv_args 0 as) []) : zCal X d y (ws_ y cc nL ret) as g K KX := by
  intro N hN
  refine vx_ofW (cc := cc) (maxL := nL) (ret := ret) hy rfl ?_
  intro p e s m args below meth c s₁ B hml htab hv
  obtain ⟨rfl, hNs, hW, hR⟩ := hv
  subst hNs
  have hts := atoms_spec (ws := ws_ y cc nL ret) B.pre
  have hts : ∀ w ∈ lw_all, w.before _ s = true := fun w h => hts w (List.mem_cons_of_mem _ h)
  have hown : s.vm.findClass y.cls = some m.cls := findClass_of_methodNamed B.named
  have hl := lv_entry as (n := nL) hlen
  rw [lg_entry_eq]
  generalize (lg_sl as ++ List.replicate (nL - (lg_sl as).length) Slot.unset).toArray = ls at hl ⊢
  have k := body (p, e, (headSpec (ws_ y cc nL ret) { frames := d, cells := zz X - zms s, slots := zz X - zms s, locals := 64 * d }).room, s, m, as.toArray, below, meth, c, vx_MQ below (fun _ => zQa X K) (zQx X KX) as.toArray s (zz X - zms s) (zz X - zms s) (zA X))
    ⟨⟨B.exec, B.bytes, hml, hown⟩, ⟨B.notSynchronized, B.returns, (name_of_methodNamed B.named B.method).1⟩, hts, hok, hW, ⟨hR.1.1, hR.1.2⟩, Nat.le_refl _, Nat.le_refl _, Nat.le_refl _, Nat.le_refl _⟩ ⟨Nat.le_trans hR.2.1.1 hR.2.1.2, htab, rfl⟩
  exact zw_tight (k s.heap [] ls hR va_S.rf hl)
theorem zQ.widen {H : Heap} {locs : List Loc} {f : JFrame} (hQ : zQ X E K KX) (hR : zRep X g H) (k : zW X E H locs (zz X - zms (zS E)) (zz X - zms (zS E)) f) : zV X E H locs f := by
  refine zV.bound fun b1 b2 => ?_
  have h1 := hR.2.1
  have h2 := hQ.1
  unfold zms at h2 k
  exact W.widen (by omega) (by omega) k
theorem z_iret (C : zC X d E own cc nL (some .int) nm) (hQ : zQ X E K KX) {v : Int32} (hdg : decode cc pc = .ok (.ireturn, 1)) (h : K (some (.int v)) g) : GW X E nL g pc lc [.int v] := by
  intro H locs ls hR hS hl
  refine hQ.widen hR ?_
  unfold zW
  rw [hQ.2.2]
  exact vx_ret (W.iret C.x C.b C.re (fun t ht hW => ⟨⟨_, g, rfl, by rw [ht]; exact hR, h⟩, by rw [ht]; exact hS.1⟩) hS.2.2 hdg C.lk)
theorem z_zret {ty : FieldType} (C : zC X d E own cc nL (some ty) nm) (hQ : zQ X E K KX) {v : Int32} (hn : narrow ty (.int v) = .int v) (hdg : decode cc pc = .ok (.ireturn, 1)) (h : K (some (.int v)) g) : GW X E nL g pc lc [.int v] := by
  intro H locs ls hR hS hl
  refine hQ.widen hR ?_
  unfold zW
  rw [hQ.2.2]
  exact vx_ret (W.zret C.x C.b C.re hn (fun t ht hW => ⟨⟨_, g, rfl, by rw [ht]; exact hR, h⟩, by rw [ht]; exact hS.1⟩) hS.2.2 hdg C.lk)
theorem z_lret (C : zC X d E own cc nL (some .long) nm) (hQ : zQ X E K KX) {v : Int64} (hdg : decode cc pc = .ok (.lreturn, 1)) (h : K (some (.long v)) g) : GW X E nL g pc lc [.long v] := by
  intro H locs ls hR hS hl
  refine hQ.widen hR ?_
  unfold zW
  rw [hQ.2.2]
  exact vx_ret (W.lret C.x C.b C.re (fun t ht hW => ⟨⟨_, g, rfl, by rw [ht]; exact hR, h⟩, by rw [ht]; exact hS.1⟩) hS.2.2 hdg C.lk)
theorem z_vret (C : zC X d E own cc nL none nm) (hQ : zQ X E K KX) (hdg : decode cc pc = .ok (.return_, 1)) (h : K none g) : GW X E nL g pc lc [] := by
  intro H locs ls hR hS hl
  refine hQ.widen hR ?_
  unfold zW
  rw [hQ.2.2]
  exact vx_ret (W.vret C.x C.b C.re (fun t ht hW => ⟨⟨_, g, rfl, by rw [ht]; exact hR, h⟩, by rw [ht]; exact hS.1⟩) hS.2.2 hdg C.lk)
/-- null or a reference -/
def zrf (v : Value) : Prop := v = .null ∨ ∃ a, v = .ref a
theorem z_aret {rt : FieldType} (C : zC X d E own cc nL (some rt) nm) (hQ : zQ X E K KX) (hrt : (∃ n, rt = .object n) ∨ ∃ t, rt = .array t) {v : Value} (hv : zrf v) (hdg : decode cc pc = .ok (.areturn, 1)) (h : K (some v) g) : GW X E nL g pc lc [v] := by
  intro H locs ls hR hS hl
  refine hQ.widen hR ?_
  unfold zW
  rw [hQ.2.2]
  exact vx_ret (W.aret C.x C.b C.re hrt hv (fun t ht hW => ⟨⟨_, g, rfl, by rw [ht]; exact hR, h⟩, by rw [ht]; exact hS.1⟩) hS.2.2 hdg C.lk)
/-- an exception that this method lets go -/
theorem z_out (C : zC X d E own cc nL ret nm) (hQ : zQ X E K KX) {x : String} (h : KX x g) : GX X E nL g pc lc x := by
  intro H locs ls rest q ce hR hS hl hce hcv hcl
  have b : ∀ b1 : (zS E).heap.size ≤ H.size, zsl (zS E).heap ≤ zsl H → H.size - (zS E).heap.size ≤ zz X - zms (zS E) ∧ zsl H - zsl (zS E).heap ≤ zz X - zms (zS E) := fun b1 b2 => by
    have h1 := hR.2.1
    have h2 := hQ.1
    unfold zms at h2 ⊢
    omega
  rw [hQ.2.2]
  refine zx_bound fun b1 b2 _ _ => ?_
  obtain ⟨c1, c2⟩ := b b1 b2
  exact vx_out (fun x hx => absurd hx (fun h => hQ.2.1 x h)) C.lk hce hcv hcl (fun t ht hA => ⟨⟨g, by rw [ht]; exact hR, h⟩, by rw [ht]; exact hS.1⟩) hS.2.2 c1 c2
theorem zCal.mono {y : MethodName} {ws : List Cond} {as : List Value} {K' : Option Value → zG → Prop} {KX' : String → zG → Prop} (h : zCal X d y ws as g K KX) (hK : ∀ r g', K r g' → K' r g') (hX : ∀ x g', KX x g' → KX' x g') : zCal X d y ws as g K' KX' := by
  intro N hN p e ha hc hk s m args below hf happ hP hT
  obtain ⟨n, o, h1, h2, h3, h4⟩ := h N hN p e ha hc hk s m args below hf happ hP hT
  refine ⟨n, o, h1, h2, h3, ?_⟩
  rcases h4 with ⟨⟨⟨r, g', q1, q2, q3⟩, q4⟩, q5⟩ | ⟨q, q1, x, ce, L, ⟨⟨g', w1, w2⟩, w3⟩, w4⟩
  · exact Or.inl ⟨⟨⟨r, g', q1, q2, hK r g' q3⟩, q4⟩, q5⟩
  · exact Or.inr ⟨q, q1, x, ce, L, ⟨⟨g', w1, hX x g' w2⟩, w3⟩, w4⟩
end ZEND
