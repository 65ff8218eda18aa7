set_option maxRecDepth 100000
/-! THE LAW'S BODY: what its cases stand on -/
/-- the script -/
def zLS (X : zX) (E : zM) (b L : Nat) (xs : Nat → Int32) : Prop := (zS E).heap.size = (zs X).heap.size ∧ va_X b L xs (zS E) (zS E).heap ∧ b < (zs X).heap.size
/-- nothing is thrown -/
def zKF : String → zG → Prop := fun _ _ => False
/-- behind the class's call: the model's, and what it has thrown -/
def zLK (X : zX) (D m o : Nat) (y : MethodName) (w : List Cond) (as : List Value) (Zb : Int32 → Prop) (G : zG → Prop) : Option Value → zG → Prop := fun r g1 => ∃ kk : Int32, r = some (.int kk) ∧ zIs g1 3 m ∧ zCal X D y w (.ref m :: as) g1 (fun r g2 => ∃ b : Int32, r = some (.int b) ∧ zIs g2 3 m ∧ zCal X D yX3_thrown wX3_thrown [.ref m] g2 (fun r g3 => r = some (.int kk) ∧ G g3 ∧ (kk = 0 → ∃ f : Nat → Int64, zGj g3 0 o = some (1, f) ∧ f 0 = b.toInt64 ∧ Zb b)) zKF) zKF
section LAWK
variable {X : zX} {x m o b0 k D : Nat} {g g1 g1' : zG} {G : zG → Prop} {Zb : Int32 → Prop}
theorem zLK.of {y : MethodName} {w : List Cond} {as : List Value} {cd v : Int32} (hok : zOk X) (hp : zPar X x m o b0 k y w as D zKF cd v g1) (hZ : cd = 0 → Zb v) (hG : ∀ (g3 : zG) (cd : Int32), zIw X x m b0 (k + 1) cd g3 → zOut o g3 → G g3) (hu : (cd ≠ 0 ∧ g1' = g1) ∨ (cd = 0 ∧ ∃ f : Nat → Int64, zGj g1 0 o = some (1, f) ∧ g1' = zSj g1 0 o 1 (vp_updL f 0 v.toInt64))) : zLK X D m o y w as Zb G (some (.int cd)) g1' := by
  obtain ⟨hO, hI, hc⟩ := hp
  have hI' : zIs g1' 3 m := by
    rcases hu with ⟨-, rfl⟩ | ⟨-, f, -, rfl⟩
    · exact hI
    · exact hI
  have hw : zOuw o g1 g1' := by
    rcases hu with ⟨-, rfl⟩ | ⟨-, f, -, rfl⟩
    · exact Or.inl rfl
    · exact Or.inr ⟨_, rfl⟩
  have hO' : ∃ f : Nat → Int64, zGj g1' 0 o = some (1, f) ∧ (cd = 0 → f 0 = v.toInt64) := by
    rcases hu with ⟨h, rfl⟩ | ⟨-, f, hf, rfl⟩
    · obtain ⟨f, hf⟩ := hO
      exact ⟨f, hf, fun z => absurd z h⟩
    · exact ⟨vp_updL f 0 v.toInt64, zup_s _ _ _ _, fun _ => if_pos rfl⟩
  obtain ⟨f, hf, hf0⟩ := hO'
  refine ⟨cd, rfl, hI', (hc g1' hw).mono ?_ (fun _ _ h => h)⟩
  rintro r g2 ⟨b, rb, hb, I, hj⟩
  have hf2 : zGj g2 0 o = some (1, f) := by rw [hj]; exact hf
  have hg := hG g2 cd I ⟨f, hf2⟩
  obtain ⟨fi, fa, adm, lg, M, P, np, sz, h34, hR, hM, hV, hno⟩ := I
  refine ⟨b, rb, hM.is, mp_thrown hok hM ⟨by rw [h34], hg, fun z => ⟨f, hf2, by rw [hf0 z, hb z], by rw [hb z]; exact hZ z⟩⟩⟩
/-- the pair, as the law's own method asks for it -/
theorem zPair.k1 {yc : MethodName} {wc : List Cond} {y : MethodName} {w : List Cond} {as : List Value} {A : String} (hok : zOk X) (hp : zPair X x m o b0 k yc wc y w as D (D + 1) g [(A, 1)] zKF) (hG : ∀ (g3 : zG) (cd : Int32), zIw X x m b0 (k + 1) cd g3 → zOut o g3 → G g3) :
    zCal X D yc wc (.ref x :: as) g (fun r g1 => ∃ (v : Int32) (f : Nat → Int64), r = some (.int v) ∧ zGj g1 0 o = some (1, f) ∧ zLK X (D + 1) m o y w as (fun _ => True) G (some (.int 0)) (zSj g1 0 o 1 (vp_updL f 0 v.toInt64))) (fun s g1 => s = A ∧ zLK X (D + 1) m o y w as (fun _ => True) G (some (.int 1)) g1) := by
  refine zCal.mono hp ?_ ?_
  · rintro r g1 ⟨v, rv, hq⟩
    obtain ⟨f, hf⟩ := hq.1
    exact ⟨v, f, rv, hf, zLK.of hok hq (fun _ => trivial) hG (Or.inr ⟨rfl, f, hf, rfl⟩)⟩
  · rintro s g1 ⟨cd, hm, hq⟩
    simp only [List.mem_cons, List.not_mem_nil, or_false, Prod.mk.injEq] at hm
    obtain ⟨rfl, rfl⟩ := hm
    exact ⟨rfl, zLK.of hok hq (fun _ => trivial) hG (Or.inl ⟨by decide, rfl⟩)⟩
theorem zPair.k2 {yc : MethodName} {wc : List Cond} {y : MethodName} {w : List Cond} {as : List Value} {A B : String} (hok : zOk X) (hp : zPair X x m o b0 k yc wc y w as D (D + 1) g [(A, 1), (B, 2)] zKF) (hG : ∀ (g3 : zG) (cd : Int32), zIw X x m b0 (k + 1) cd g3 → zOut o g3 → G g3) :
    zCal X D yc wc (.ref x :: as) g (fun r g1 => ∃ (v : Int32) (f : Nat → Int64), r = some (.int v) ∧ zGj g1 0 o = some (1, f) ∧ zLK X (D + 1) m o y w as (fun _ => True) G (some (.int 0)) (zSj g1 0 o 1 (vp_updL f 0 v.toInt64))) (fun s g1 => (s = A ∧ zLK X (D + 1) m o y w as (fun _ => True) G (some (.int 1)) g1) ∨ (s = B ∧ zLK X (D + 1) m o y w as (fun _ => True) G (some (.int 2)) g1)) := by
  refine zCal.mono hp ?_ ?_
  · rintro r g1 ⟨v, rv, hq⟩
    obtain ⟨f, hf⟩ := hq.1
    exact ⟨v, f, rv, hf, zLK.of hok hq (fun _ => trivial) hG (Or.inr ⟨rfl, f, hf, rfl⟩)⟩
  · rintro s g1 ⟨cd, hm, hq⟩
    simp only [List.mem_cons, List.not_mem_nil, or_false, Prod.mk.injEq] at hm
    rcases hm with ⟨rfl, rfl⟩ | ⟨rfl, rfl⟩
    · exact Or.inl ⟨rfl, zLK.of hok hq (fun _ => trivial) hG (Or.inl ⟨by decide, rfl⟩)⟩
    · exact Or.inr ⟨rfl, zLK.of hok hq (fun _ => trivial) hG (Or.inl ⟨by decide, rfl⟩)⟩
theorem zPair.k3 {yc : MethodName} {wc : List Cond} {y : MethodName} {w : List Cond} {as : List Value} {A B C : String} (hok : zOk X) (hp : zPair X x m o b0 k yc wc y w as D (D + 1) g [(A, 1), (B, 2), (C, 3)] zKF) (hG : ∀ (g3 : zG) (cd : Int32), zIw X x m b0 (k + 1) cd g3 → zOut o g3 → G g3) :
    zCal X D yc wc (.ref x :: as) g (fun r g1 => ∃ (v : Int32) (f : Nat → Int64), r = some (.int v) ∧ zGj g1 0 o = some (1, f) ∧ zLK X (D + 1) m o y w as (fun _ => True) G (some (.int 0)) (zSj g1 0 o 1 (vp_updL f 0 v.toInt64))) (fun s g1 => (s = A ∧ zLK X (D + 1) m o y w as (fun _ => True) G (some (.int 1)) g1) ∨ (s = B ∧ zLK X (D + 1) m o y w as (fun _ => True) G (some (.int 2)) g1) ∨ (s = C ∧ zLK X (D + 1) m o y w as (fun _ => True) G (some (.int 3)) g1)) := by
  refine zCal.mono hp ?_ ?_
  · rintro r g1 ⟨v, rv, hq⟩
    obtain ⟨f, hf⟩ := hq.1
    exact ⟨v, f, rv, hf, zLK.of hok hq (fun _ => trivial) hG (Or.inr ⟨rfl, f, hf, rfl⟩)⟩
  · rintro s g1 ⟨cd, hm, hq⟩
    simp only [List.mem_cons, List.not_mem_nil, or_false, Prod.mk.injEq] at hm
    rcases hm with ⟨rfl, rfl⟩ | ⟨rfl, rfl⟩ | ⟨rfl, rfl⟩
    · exact Or.inl ⟨rfl, zLK.of hok hq (fun _ => trivial) hG (Or.inl ⟨by decide, rfl⟩)⟩
    · exact Or.inr (Or.inl ⟨rfl, zLK.of hok hq (fun _ => trivial) hG (Or.inl ⟨by decide, rfl⟩)⟩)
    · exact Or.inr (Or.inr ⟨rfl, zLK.of hok hq (fun _ => trivial) hG (Or.inl ⟨by decide, rfl⟩)⟩)
/-- calls that throw nothing -/
theorem zPair.k0 {yc : MethodName} {wc : List Cond} {y : MethodName} {w : List Cond} {as : List Value} (hp : zPair X x m o b0 k yc wc y w as D D g [] zKF) (hG : ∀ (g3 : zG) (cd : Int32), zIw X x m b0 (k + 1) cd g3 → zOut o g3 → G g3) :
    zCal X D yc wc (.ref x :: as) g (fun r g1 => ∃ v : Int32, r = some (.int v) ∧ zIs g1 3 m ∧ zCal X D y w (.ref m :: as) g1 (fun r g2 => r = some (.int v) ∧ G g2) zKF) zKF := by
  refine zCal.mono hp ?_ ?_
  · rintro r g1 ⟨v, rv, hO, hI, hc⟩
    refine ⟨v, rv, hI, (hc g1 (Or.inl rfl)).mono ?_ (fun _ _ h => h)⟩
    rintro r g2 ⟨b, rb, hb, I, hj⟩
    refine ⟨by rw [rb, hb rfl], hG g2 0 I ?_⟩
    obtain ⟨f, hf⟩ := hO
    exact ⟨f, by rw [hj]; exact hf⟩
  · rintro s g1 ⟨cd, hm, -⟩
    cases hm
theorem zKF.ex {E : zM} {nL pc : Nat} {lc : List (Nat × Value)} {s : String} {g : zG} (h : zKF s g) : GX X E nL g pc lc s := h.elim
variable {d : Nat} {E : zM} {own : String} {cc : ByteArray} {nL : Nat} {ret : Option FieldType} {nm : String} {pc : Nat} {rest : List Value} {H : Heap} {locs : List Loc} {ls : Array Slot}
/-- is it other than 0 -/
theorem z_bool (C : zC X d E own cc nL ret nm) {a : Int32} (h1 : decode cc pc = .ok (.ifCond .eq 7, 3)) (h2 : decode cc (pc + 3) = .ok (.iconst 1, 1)) (h3 : decode cc (pc + 4) = .ok (.goto 4, 3)) (h4 : decode cc (pc + 7) = .ok (.iconst 0, 1)) (k : zV X E H locs (F0 (zm E) (pc + 8) ls (.int (if a = 0 then 0 else 1) :: rest))) : zV X E H locs (F0 (zm E) pc ls (.int a :: rest)) := by
  refine lv_if_eq (tgt := pc + 7) C.x C.b h1 (by omega) (fun c => ?_) (fun c => ?_)
  · rw [if_pos c] at k
    exact lv_iconst (v := 0) C.x C.b h4 (by decide) k
  · rw [if_neg c] at k
    exact lv_iconst (v := 1) C.x C.b h2 (by decide) (lv_goto (tgt := pc + 8) C.x C.b h3 (by omega) k)
theorem zbo_if (a : Int32) : zbo (if a = 0 then 0 else 1) := by
  split
  · exact Or.inl rfl
  · exact Or.inr rfl
theorem lg_cmp_s (a : Int64) : lg_cmp a a = 0 := by
  unfold lg_cmp
  simp
end LAWK
theorem zIw.is1 {X : zX} {x m b0 k : Nat} {cd : Int32} {g : zG} (h : zIw X x m b0 k cd g) : zIs g 1 x := by
  obtain ⟨fi, fa, adm, lg, M, P, np, sz, -, ⟨ad, fo, eo, mo, c, pt, hW, -, -⟩, -⟩ := h
  exact ⟨1, _, hW.1.1, rfl⟩
/-- the script's places that a case reads -/
def zLi5 (i : Int32) (L : Nat) : Prop := vp_in (i + 1) L ∧ vp_in (i + 2) L ∧ vp_in (i + 3) L ∧ vp_in (i + 4) L ∧ vp_in (i + 5) L
