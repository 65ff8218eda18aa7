set_option maxRecDepth 100000
theorem zSu.perm {g : zG} {r : Option Nat} {E F : List (Nat × Int32)} (h : zSu g r E) (hp : E.Perm F) : zSu g r F := by
  cases r with
  | none =>
    have : E = [] := h
    subst this
    exact hp.nil_eq.symm
  | some s =>
    obtain ⟨m, h1, ⟨x, h2, h3⟩, h4⟩ := h
    exact ⟨m, by rw [← hp.length_eq]; exact h1, ⟨x, hp.mem_iff.mp h2, h3⟩, fun x hx => h4 x (hp.mem_iff.mpr hx)⟩
/-- the events of a stretch -/
def zSl (E : List (Nat × Int32)) (f l : Nat) : List (Nat × Int32) := E.filter (fun x => decide (f ≤ x.1 ∧ x.1 ≤ l))
theorem zSl_halves (E : List (Nat × Int32)) (f l m : Nat) : (zSl (zlw E m) f l ++ zSl (zup2 E m) f l).Perm (zSl E f l) := by
  unfold zSl zlw zup2
  rw [← List.filter_append]
  refine List.Perm.filter _ ?_
  have e : (fun x : Nat × Int32 => decide (m < x.1)) = fun x => !(decide (x.1 ≤ m)) := by
    funext x
    rw [← decide_not]
    simp
  rw [e]
  exact List.filter_append_perm _ _
def zov (r : Option Nat) : Nat := match r with
  | none => 0
  | some _ => 3
section OVR
variable {X : zX} {K : Option Value → zG → Prop} {KX : String → zG → Prop}
/-- the end of over: two halves joined -/
theorem ct_over_87 (hok : zOk X) {d : Nat} {g : zG} {E : zM} {r1 r2 : Option Nat} {A B : List (Nat × Int32)} (C : zC X (d + 4) E RX2 cX2_over 5 (some (.object "LogGrammar$Summary")) "over") (hQ : zQ X E K KX) (h1 : zSu g r1 A) (h2 : zSu g r2 B) (hz : zGz g + 3 ≤ zz X)
    (hK : ∀ (g' : zG) (r : Option Nat), zFe (fun _ => False) g g' → zSu g' r (A ++ B) → zGz g' + zov r ≤ zGz g + zov r1 + zov r2 → K (some (va_rf r)) g') : GW X E 5 g 87 [(3, va_rf r1)] [va_rf r2] := by
  refine bX2_over_87 (d := d + 3) C hQ g r1 r2 ⟨fun c => ?_, fun a c => ⟨fun c2 => ?_, fun b c2 => ?_⟩⟩
  · subst c
    have : A = [] := h1
    subst this
    exact hK g r2 (zFe.rf _ _) h2 (by show zGz g + zov r2 ≤ zGz g + 0 + zov r2; omega)
  · subst c c2
    have : B = [] := h2
    subst this
    refine hK g (some a) (zFe.rf _ _) (by rw [List.append_nil]; exact h1) (by show zGz g + 3 ≤ zGz g + 3 + 0; omega)
  · subst c c2
    obtain ⟨m1, k1, k2⟩ := h1
    obtain ⟨m2, k3, k4⟩ := h2
    refine ⟨⟨5, _, k1, rfl⟩, ct_join hok k1 k3 hz (by omega) (fun s g1 e1 e2 => ?_)⟩
    have k : zGo g1 5 s = some [.int (nI A.length + nI B.length), .int (if m1 < m2 then m2 else m1)] := by rw [e2, zSz_o, zSo_o, zup_s]
    have z1 : zGz g1 = zGz g + 3 := by rw [e2]; rfl
    refine ⟨s, rfl, ⟨5, _, k, rfl⟩, hK g1 (some s) (by rw [e2]; exact zFe.new e1 _) (zSu.app (m1 := m1) (m2 := m2) (by rw [k, nI_add]) k2 k4 rfl) ?_⟩
    show zGz g1 + 3 ≤ zGz g + 3 + 3
    omega
theorem zSu.len {g : zG} {r : Option Nat} {E : List (Nat × Int32)} (h : zSu g r E) : zov r ≤ 3 * E.length := by
  cases r with
  | none => exact Nat.zero_le _
  | some s =>
    obtain ⟨m, -, ⟨x, h2, -⟩, -⟩ := h
    have := List.length_pos_of_mem h2
    show 3 ≤ _
    omega
theorem ct_over (hok : zOk X) {kd f l : Nat} {c : Nat → Nat × Nat × Nat} (hfl : f ≤ l) (hl : l ≤ 11000) : ∀ (h a lo hi : Nat) (E : List (Nat × Int32)) (g : zG) (D : Nat) (K : Option Value → zG → Prop) (KX : String → zG → Prop), zTr kd c g h a lo hi E → hi ≤ 11000 → (∀ x ∈ E, lo ≤ x.1 ∧ x.1 ≤ hi) → zGz g + 3 * (zSl E f l).length ≤ zz X → h + 5 ≤ D →
    (∀ (g' : zG) (r : Option Nat), zFe (fun _ => False) g g' → zSu g' r (zSl E f l) → zGz g' + zov r ≤ zGz g + 3 * (zSl E f l).length → K (some (va_rf r)) g') → zCal X D yX2_over wX2_over [.ref a, .int (nI f), .int (nI l)] g K KX := by
  intro h
  induction h with
  | zero =>
    intro a lo hi E g D K KX hT hhi hE hz hD hK
    obtain ⟨d, rfl⟩ : ∃ d, D = d + 1 := ⟨D - 1, by omega⟩
    obtain ⟨lw, up, ⟨⟨al, h1, h2⟩, h3⟩, h4⟩ := hT
    subst h4
    have nul : zSl E f l = [] → K (some .null) g := fun e => by
      have := hK g none (zFe.rf _ _) e (by rw [e]; exact Nat.le_refl _)
      exact this
    refine mX2_over (d := d) hok a _ _ (fun E0 C hQ => ⟨_, al, h1, rfl, fun c => ?_, fun a3 c => ?_⟩)
    · subst c
      have : E = [] := h2
      subst this
      exact nul rfl
    · subst c
      refine ⟨_, _, h1, rfl, fun c1 => nul ?_, fun c1 => ⟨_, _, h1, rfl, fun c2 => ⟨_, _, h1, rfl, fun c3 => absurd (nI_lt (a := lo) (b := f) ?_ (by omega)) ?_, fun c3 => ⟨_, _, h1, rfl, fun c4 => absurd c4 c1, fun c4 => ⟨_, _, h1, rfl, ?_⟩⟩⟩, fun c2 => nul ?_⟩⟩
      · have := (nI_ltI (by omega) (by omega)).mp c1
        refine List.filter_eq_nil_iff.mpr (fun x hx => ?_)
        have := hE x hx
        simp
        omega
      · exact (nI_ltI (by omega) (by omega)).mp c3
      · exact nI_nlt ((nI_leI (by omega) (by omega)).mp c2) (by omega)
      · have e : zSl E f l = E := by
          refine List.filter_eq_self.mpr (fun x hx => ?_)
          have := hE x hx
          have k1 : f ≤ lo := (nI_leI (by omega) (by omega)).mp c2
          have k2 : lo ≤ l := by
            by_cases z : lo ≤ l
            · exact z
            · exact absurd (nI_lt (by omega) (by omega)) c1
          simp
          omega
        refine hK g (some a3) (zFe.rf _ _) (by rw [e]; exact h2) ?_
        rw [e]
        have := h2.len
        omega
      · have k1 : ¬ f ≤ lo := fun z => c2 (nI_le z (by omega))
        refine List.filter_eq_nil_iff.mpr (fun x hx => ?_)
        have := hE x hx
        simp
        omega
  | succ h ih =>
    intro a lo hi E g D K KX hT hhi hE hz hD hK
    obtain ⟨d, rfl⟩ : ∃ d, D = d + 4 := ⟨D - 4, by omega⟩
    obtain ⟨lw, up, ⟨⟨al, h1, h2⟩, h3⟩, h4, h5⟩ := hT
    have nul : zSl E f l = [] → K (some .null) g := fun e => by
      have := hK g none (zFe.rf _ _) e (by rw [e]; exact Nat.le_refl _)
      exact this
    refine mX2_over (d := d + 3) hok a _ _ (fun E0 C hQ => ⟨_, al, h1, rfl, fun c => ?_, fun a3 c => ?_⟩)
    · subst c
      have : E = [] := h2
      subst this
      exact nul rfl
    · subst c
      have h46 : lo < hi → GW X E0 5 g 46 [(0, .ref a), (1, .int (nI f)), (2, .int (nI l))] [] := by
        intro hlh
        obtain ⟨t1, t2⟩ := h5 hlh
        have hperm := zSl_halves E f l ((lo + hi) / 2)
        have hlen := hperm.length_eq
        rw [List.length_append] at hlen
        have mlo : ∀ x ∈ zlw E ((lo + hi) / 2), lo ≤ x.1 ∧ x.1 ≤ (lo + hi) / 2 := fun x hx => by
          obtain ⟨k1, k2⟩ := List.mem_filter.mp hx
          exact ⟨(hE x k1).1, of_decide_eq_true k2⟩
        have mup : ∀ x ∈ zup2 E ((lo + hi) / 2), (lo + hi) / 2 + 1 ≤ x.1 ∧ x.1 ≤ hi := fun x hx => by
          obtain ⟨k1, k2⟩ := List.mem_filter.mp hx
          exact ⟨of_decide_eq_true k2, (hE x k1).2⟩
        -- the upper half, behind the lower one
        have h66 : ∀ (g1 : zG) (r1 : Option Nat), zFe (fun _ => False) g g1 → zSu g1 r1 (zSl (zlw E ((lo + hi) / 2)) f l) → zGz g1 + zov r1 ≤ zGz g + 3 * (zSl (zlw E ((lo + hi) / 2)) f l).length → GW X E0 5 g1 66 [(0, .ref a), (1, .int (nI f)), (2, .int (nI l))] [va_rf r1] := by
          intro g1 r1 e1 e2 e3
          have n1 := e1.1 2 id _ _ h1
          refine bX2_over_66 (d := d + 3) C hQ g1 _ _ _ _ ⟨_, up, n1, rfl, fun cn => ?_, fun b cb => ⟨_, up, n1, rfl, b, cb, ?_⟩⟩
          · subst cn
            have e : zSl (zup2 E ((lo + hi) / 2)) f l = [] := by
              rw [show zup2 E ((lo + hi) / 2) = [] from t2]
              rfl
            rw [e] at hperm hlen
            have : (zSl E f l).length = (zSl (zlw E ((lo + hi) / 2)) f l).length := by simpa using hlen.symm
            cases r1 with
            | none =>
              have e2' : zSl (zlw E ((lo + hi) / 2)) f l = [] := e2
              rw [e2'] at this hperm
              refine bX2_over_87 (d := d + 3) C hQ g1 none none ⟨fun _ => hK g1 none e1 (zSu.perm (show zSu g1 none ([] ++ []) from rfl) hperm) (by rw [this]; rw [e2'] at e3; exact e3), fun a c => by cases c⟩
            | some s1 =>
              refine bX2_over_87 (d := d + 3) C hQ g1 (some s1) none ⟨fun c => (by cases c), fun a c => ⟨fun _ => ?_, fun b c2 => by cases c2⟩⟩
              cases c
              refine hK g1 (some s1) e1 (zSu.perm e2 (by rw [List.append_nil] at hperm; exact hperm)) (by rw [this]; exact e3)
          · subst cb
            have t2b : zTr kd c g1 h b ((lo + hi) / 2 + 1) hi (zup2 E ((lo + hi) / 2)) := zTr.keep t2 (zTq.fe (S := fun _ => False) e1) (fun _ _ _ _ _ => id)
            obtain ⟨lw3, up3, ⟨⟨al3, b6, -⟩, -⟩, -⟩ := t2b.top
            refine ⟨⟨2, _, b6, rfl⟩, ih b _ hi _ g1 _ _ _ t2b hhi mup (by omega) (by omega) (fun g2 r2 y1 y2 y3 => ⟨r2, rfl, ?_⟩)⟩
            by_cases cc : r1 = none ∨ r2 = none
            · -- nothing is joined
              have hj : ∀ r, zSu g2 r (zSl (zlw E ((lo + hi) / 2)) f l ++ zSl (zup2 E ((lo + hi) / 2)) f l) → zov r ≤ zov r1 + zov r2 → K (some (va_rf r)) g2 := fun r q1 q2 => hK g2 r (e1.trans y1) (q1.perm hperm) (by omega)
              refine bX2_over_87 (d := d + 3) C hQ g2 r1 r2 ⟨fun c => ?_, fun a c => ⟨fun c2 => ?_, fun b c2 => ?_⟩⟩
              · subst c
                refine hj r2 ?_ (Nat.le_add_left _ _)
                rw [show zSl (zlw E ((lo + hi) / 2)) f l = [] from e2, List.nil_append]
                exact y2
              · subst c c2
                refine hj (some a) ?_ (Nat.le_add_right _ _)
                rw [show zSl (zup2 E ((lo + hi) / 2)) f l = [] from y2, List.append_nil]
                exact e2.fe y1 id
              · subst c c2
                rcases cc with z | z <;> cases z
            · have hr1 : zov r1 = 3 := by
                cases r1 with
                | none => exact absurd (Or.inl rfl) cc
                | some s => rfl
              refine ct_over_87 hok C hQ (e2.fe y1 id) y2 (by omega) (fun g3 r3 w1 w2 w3 => ?_)
              exact hK g3 r3 ((e1.trans y1).trans w1) (w2.perm hperm) (by omega)
        refine bX2_over_46 (d := d + 3) C hQ g _ _ _ ⟨_, lw, h1, rfl, fun cn => ?_, fun b cb => ⟨_, lw, h1, rfl, b, cb, ?_⟩⟩
        · subst cn
          have e : zSl (zlw E ((lo + hi) / 2)) f l = [] := by
            rw [show zlw E ((lo + hi) / 2) = [] from t1]
            rfl
          exact h66 g none (zFe.rf _ _) e (by rw [e]; exact Nat.le_refl _)
        · subst cb
          obtain ⟨lw3, up3, ⟨⟨al3, b6, -⟩, -⟩, -⟩ := zTr.top t1
          exact ⟨⟨2, _, b6, rfl⟩, ih b lo _ _ g _ _ _ t1 (by omega) mlo (by omega) (by omega) (fun g1 r1 y1 y2 y3 => ⟨r1, rfl, h66 g1 r1 y1 y2 y3⟩)⟩
      refine ⟨_, _, h1, rfl, fun c1 => nul ?_, fun c1 => ⟨_, _, h1, rfl, fun c2 => ⟨_, _, h1, rfl, fun c3 => h46 ?_, fun c3 => ⟨_, _, h1, rfl, fun c4 => h46 ?_, fun c4 => ⟨_, _, h1, rfl, ?_⟩⟩⟩, fun c2 => nul ?_⟩⟩
      · have := (nI_ltI (by omega) (by omega)).mp c1
        refine List.filter_eq_nil_iff.mpr (fun x hx => ?_)
        have := hE x hx
        simp
        omega
      · have k1 := (nI_ltI (by omega) (by omega)).mp c3
        have k2 := (nI_leI (by omega) (by omega)).mp c2
        omega
      · have k1 := (nI_ltI (by omega) (by omega)).mp c4
        have k2 : ¬ l < lo := fun z => c1 (nI_lt z (by omega))
        omega
      · have e : zSl E f l = E := by
          refine List.filter_eq_self.mpr (fun x hx => ?_)
          have := hE x hx
          have k1 : ¬ lo < f := fun z => c3 (nI_lt z (by omega))
          have k2 : ¬ l < hi := fun z => c4 (nI_lt z (by omega))
          simp
          omega
        refine hK g (some a3) (zFe.rf _ _) (by rw [e]; exact h2) ?_
        rw [e]
        have := h2.len
        omega
      · have k1 : ¬ f ≤ hi := fun z => c2 (nI_le z (by omega))
        refine List.filter_eq_nil_iff.mpr (fun x hx => ?_)
        have := hE x hx
        simp
        omega
end OVR
