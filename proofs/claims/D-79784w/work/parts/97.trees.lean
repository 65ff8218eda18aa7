set_option maxRecDepth 100000
/-- a summary of events, each with its time and value: nothing of none -/
def zSu (g : zG) (r : Option Nat) (E : List (Nat × Int32)) : Prop := match r with
  | none => E = []
  | some s => ∃ m : Int32, zGo g 5 s = some [.int (nI E.length), .int m] ∧ (∃ x ∈ E, x.2 = m) ∧ ∀ x ∈ E, x.2 ≤ m
/-- a node of tree kd, of the stretch lo to hi -/
def zTo (kd : Nat) (c : Nat → Nat × Nat × Nat) (g : zG) (a lo hi : Nat) (E : List (Nat × Int32)) (lw up : Option Nat) : Prop := (∃ al : Option Nat, zGo g 2 a = some [.int (nI lo), .int (nI hi), va_rf al, va_rf lw, va_rf up] ∧ zSu g al E) ∧ c a = (kd, lo, hi)
def zTc (r : Option Nat) (P : Nat → Prop) (E : List (Nat × Int32)) : Prop := match r with
  | none => E = []
  | some b => P b
/-- the events up to a time, and behind it -/
def zlw (E : List (Nat × Int32)) (m : Nat) : List (Nat × Int32) := E.filter (fun x => decide (x.1 ≤ m))
def zup2 (E : List (Nat × Int32)) (m : Nat) : List (Nat × Int32) := E.filter (fun x => decide (m < x.1))
/-- a tree, to a depth -/
def zTr (kd : Nat) (c : Nat → Nat × Nat × Nat) (g : zG) : Nat → Nat → Nat → Nat → List (Nat × Int32) → Prop
  | 0, a, lo, hi, E => ∃ lw up : Option Nat, zTo kd c g a lo hi E lw up ∧ lo = hi
  | h + 1, a, lo, hi, E => ∃ lw up : Option Nat, zTo kd c g a lo hi E lw up ∧ lo ≤ hi ∧ (lo < hi → zTc lw (fun b => zTr kd c g h b lo ((lo + hi) / 2) (zlw E ((lo + hi) / 2))) (zlw E ((lo + hi) / 2)) ∧ zTc up (fun b => zTr kd c g h b ((lo + hi) / 2 + 1) hi (zup2 E ((lo + hi) / 2))) (zup2 E ((lo + hi) / 2)))
theorem zSu.fe {P : Nat → Prop} {g g' : zG} {r : Option Nat} {E : List (Nat × Int32)} (h : zSu g r E) (e : zFe P g g') (h5 : ¬ P 5) : zSu g' r E := by
  cases r with
  | none => exact h
  | some s =>
    obtain ⟨m, h1, h2⟩ := h
    exact ⟨m, e.1 5 h5 _ _ h1, h2⟩
theorem zSu.so {g : zG} {a : Nat} {fs : List Value} {r : Option Nat} {E : List (Nat × Int32)} (h : zSu g r E) : zSu (zSo g 2 a fs) r E := h.fe (P := fun k => k = 2) (zFe.so rfl) (by omega)
/-- all that a tree rests on stays -/
theorem zTr.fr {kd : Nat} {c c' : Nat → Nat × Nat × Nat} {g g' : zG} {P : Nat → Prop} (e : zFe P g g') (h5 : ¬ P 5) : ∀ (h a lo hi : Nat) (E : List (Nat × Int32)), zTr kd c g h a lo hi E → (∀ b l r fs, zGo g 2 b = some fs → c b = (kd, l, r) → lo ≤ l → l ≤ r → r ≤ hi → zGo g' 2 b = some fs ∧ c' b = c b) → zTr kd c' g' h a lo hi E
  | 0, a, lo, hi, E, hT, hf => by
    obtain ⟨lw, up, ⟨⟨al, h1, h2⟩, h3⟩, h4⟩ := hT
    obtain ⟨q1, q2⟩ := hf a lo hi _ h1 h3 (Nat.le_refl _) (by omega) (Nat.le_refl _)
    exact ⟨lw, up, ⟨⟨al, q1, h2.fe e h5⟩, q2.trans h3⟩, h4⟩
  | h + 1, a, lo, hi, E, hT, hf => by
    obtain ⟨lw, up, ⟨⟨al, h1, h2⟩, h3⟩, h4, h5'⟩ := hT
    obtain ⟨q1, q2⟩ := hf a lo hi _ h1 h3 (Nat.le_refl _) h4 (Nat.le_refl _)
    refine ⟨lw, up, ⟨⟨al, q1, h2.fe e h5⟩, q2.trans h3⟩, h4, fun hl => ?_⟩
    obtain ⟨t1, t2⟩ := h5' hl
    refine ⟨?_, ?_⟩
    · cases lw with
      | none => exact t1
      | some b => exact zTr.fr e h5 h b lo _ _ t1 (fun b' l r fs k1 k2 k3 k4 k5 => hf b' l r fs k1 k2 k3 k4 (by omega))
    · cases up with
      | none => exact t2
      | some b => exact zTr.fr e h5 h b _ hi _ t2 (fun b' l r fs k1 k2 k3 k4 k5 => hf b' l r fs k1 k2 (by omega) k4 k5)
theorem zTr.top {kd : Nat} {c : Nat → Nat × Nat × Nat} {g : zG} : ∀ {h a lo hi : Nat} {E : List (Nat × Int32)}, zTr kd c g h a lo hi E → ∃ lw up : Option Nat, zTo kd c g a lo hi E lw up ∧ lo ≤ hi
  | 0, a, lo, hi, E, hT => by
    obtain ⟨lw, up, h1, h2⟩ := hT
    exact ⟨lw, up, h1, by omega⟩
  | h + 1, a, lo, hi, E, hT => by
    obtain ⟨lw, up, h1, h2, -⟩ := hT
    exact ⟨lw, up, h1, h2⟩
theorem zSu.app {g : zG} {E F : List (Nat × Int32)} {s : Nat} {m m1 m2 : Int32} (hs : zGo g 5 s = some [.int (nI (E.length + F.length)), .int m]) (h1 : (∃ x ∈ E, x.2 = m1) ∧ ∀ x ∈ E, x.2 ≤ m1) (h2 : (∃ x ∈ F, x.2 = m2) ∧ ∀ x ∈ F, x.2 ≤ m2) (hm : m = if m1 < m2 then m2 else m1) : zSu g (some s) (E ++ F) := by
  refine ⟨m, by rw [List.length_append]; exact hs, ?_, fun x hx => ?_⟩
  · obtain ⟨⟨x1, a1, a2⟩, -⟩ := h1
    obtain ⟨⟨x2, b1, b2⟩, -⟩ := h2
    by_cases c : m1 < m2
    · rw [if_pos c] at hm
      exact ⟨x2, List.mem_append_right _ b1, b2.trans hm.symm⟩
    · rw [if_neg c] at hm
      exact ⟨x1, List.mem_append_left _ a1, a2.trans hm.symm⟩
  · by_cases c : m1 < m2
    · rw [if_pos c] at hm
      rcases List.mem_append.mp hx with h | h
      · rw [hm]
        exact Int32.le_trans (h1.2 x h) (Int32.le_of_lt c)
      · rw [hm]
        exact h2.2 x h
    · rw [if_neg c] at hm
      rcases List.mem_append.mp hx with h | h
      · rw [hm]
        exact h1.2 x h
      · rw [hm]
        exact Int32.le_trans (h2.2 x h) (Int32.not_lt.mp c)
section TRS
variable {X : zX} {d : Nat} {g : zG} {K : Option Value → zG → Prop} {KX : String → zG → Prop}
/-- join: two summaries in one -/
theorem ct_join (hok : zOk X) {a b : Nat} {x1 x2 y1 y2 : Int32} (ha : zGo g 5 a = some [.int x1, .int x2]) (hb : zGo g 5 b = some [.int y1, .int y2]) (hz : zGz g + 3 ≤ zz X) {D : Nat} (hD : 3 ≤ D)
    (hK : ∀ (s : Nat) (g' : zG), zFr g s → g' = zSz (zSo g 5 s [.int (x1 + y1), .int (if x2 < y2 then y2 else x2)]) (zGz g + 1 + 2) → K (some (.ref s)) g') : zCal X D yX5_join wX5_join [.ref a, .ref b] g K KX := by
  obtain ⟨d, rfl⟩ : ∃ d, D = d + 3 := ⟨D - 3, by omega⟩
  refine mX5_join (d := d + 2) hok a b ⟨⟨5, _, hb, rfl⟩, ⟨5, _, ha, rfl⟩, mX5_join_2 (d := d + 1) hok a b ⟨by omega, fun s hs g1 e1 => ?_⟩⟩
  have f1 : zFe (fun _ => False) g g1 := by
    subst e1
    exact zFe.new hs _
  have ha1 := f1.1 5 id _ _ ha
  have hb1 := f1.1 5 id _ _ hb
  refine ⟨_, _, ha1, rfl, _, _, hb1, rfl, _, _, ha1, rfl, _, _, hb1, rfl, sp_max hok ⟨_, rfl, ?_⟩⟩
  refine cp_Stretch (d := d) hok (d0 := .int 0) (d1 := .int 0) (by subst e1; rw [zSz_o, zSo_o, zup_s]) ⟨rfl, s, rfl, ?_⟩
  refine hK s _ hs ?_
  subst e1
  rw [zSo_sz, zSo_so]
theorem ct_mid {lo hi : Nat} (h : hi ≤ 11000) (hl : lo ≤ hi) : (nI lo + nI hi) / 2 = nI ((lo + hi) / 2) := by
  rw [nI_add, show (2 : Int32) = nI 2 from rfl, pk_div (by omega) (by omega) (by omega)]
theorem zfe_2 {g g' : zG} (h : zFe (fun _ => False) g g') : zFe (fun k => k = 2) g g' := h.mono (fun _ h => h.elim)
/-- of the tree's nodes, only those of the colors S change -/
def zTq (S : Nat × Nat × Nat → Prop) (c c' : Nat → Nat × Nat × Nat) (g g' : zG) : Prop := zFe (fun k => k = 2) g g' ∧ (∀ b fs, zGo g 2 b = some fs → c' b = c b) ∧ (∀ b fs, zGo g 2 b = some fs → ∃ fs' : List Value, zGo g' 2 b = some fs') ∧ ∀ b fs, zGo g 2 b = some fs → ¬ S (c b) → zGo g' 2 b = some fs
theorem zTq.trans {S : Nat × Nat × Nat → Prop} {c c' c'' : Nat → Nat × Nat × Nat} {g g' g'' : zG} (h : zTq S c c' g g') (h' : zTq S c' c'' g' g'') : zTq S c c'' g g'' := by
  obtain ⟨a1, a2, a3, a4⟩ := h
  obtain ⟨b1, b2, b3, b4⟩ := h'
  refine ⟨a1.trans b1, fun b fs e => ?_, fun b fs e => ?_, fun b fs e hn => ?_⟩
  · obtain ⟨fs', e'⟩ := a3 b fs e
    rw [b2 b fs' e', a2 b fs e]
  · obtain ⟨fs', e'⟩ := a3 b fs e
    exact b3 b fs' e'
  · exact b4 b fs (a4 b fs e hn) (by rw [a2 b fs e]; exact hn)
theorem zTq.mono {S S' : Nat × Nat × Nat → Prop} {c c' : Nat → Nat × Nat × Nat} {g g' : zG} (h : zTq S c c' g g') (hs : ∀ q, S q → S' q) : zTq S' c c' g g' := ⟨h.1, h.2.1, h.2.2.1, fun b fs e hn => h.2.2.2 b fs e (fun z => hn (hs _ z))⟩
/-- nothing of the nodes changes -/
theorem zTq.fe {S : Nat × Nat × Nat → Prop} {c : Nat → Nat × Nat × Nat} {g g' : zG} (h : zFe (fun _ => False) g g') : zTq S c c g g' := ⟨zfe_2 h, fun _ _ _ => rfl, fun b fs e => ⟨fs, h.1 2 id b fs e⟩, fun b fs e _ => h.1 2 id b fs e⟩
theorem zTq.so {c : Nat → Nat × Nat × Nat} {g : zG} {a : Nat} {fs : List Value} {q : Nat × Nat × Nat} (h : c a = q) : zTq (fun x => x = q) c c g (zSo g 2 a fs) := by
  refine ⟨zFe.so rfl, fun _ _ _ => rfl, fun b fs e => ?_, fun b fs e hn => ?_⟩
  · by_cases cb : b = a
    · subst cb
      exact ⟨_, by rw [zSo_o, zup_s]⟩
    · exact ⟨fs, by rw [zSo_o, zup_a _ _ _ _ cb]; exact e⟩
  · rw [zSo_o, zup_a _ _ _ _ (fun z => hn (by rw [z]; exact h))]
    exact e
def zcu (c : Nat → Nat × Nat × Nat) (a : Nat) (q : Nat × Nat × Nat) : Nat → Nat × Nat × Nat := fun b => if b = a then q else c b
theorem zTq.new {S : Nat × Nat × Nat → Prop} {c : Nat → Nat × Nat × Nat} {g g' : zG} {a z : Nat} {fs : List Value} {q : Nat × Nat × Nat} (h : zFr g a) (e : g' = zSz (zSo g 2 a fs) z) : zTq S c (zcu c a q) g g' := by
  have hne : ∀ b fs', zGo g 2 b = some fs' → b ≠ a := fun b fs' e z => by
    rw [z, h.1 2] at e
    cases e
  have hp : ∀ b fs', zGo g 2 b = some fs' → zGo g' 2 b = some fs' := fun b fs' e' => by
    rw [e, zSz_o, zSo_o, zup_a _ _ _ _ (hne b fs' e')]
    exact e'
  exact ⟨by rw [e]; exact zFe.new h _, fun b fs' e' => if_neg (hne b fs' e'), fun b fs' e' => ⟨fs', hp b fs' e'⟩, fun b fs' e' _ => hp b fs' e'⟩
theorem zTr.keep {S : Nat × Nat × Nat → Prop} {kd h a lo hi : Nat} {c c' : Nat → Nat × Nat × Nat} {g g' : zG} {E : List (Nat × Int32)} (hT : zTr kd c g h a lo hi E) (hq : zTq S c c' g g') (hd : ∀ l r, lo ≤ l → l ≤ r → r ≤ hi → ¬ S (kd, l, r)) : zTr kd c' g' h a lo hi E :=
  zTr.fr hq.1 (by omega) h a lo hi E hT (fun b l r fs e e2 h1 h2 h3 => ⟨hq.2.2.2 b fs e (by rw [e2]; exact hd l r h1 h2 h3), hq.2.1 b fs e⟩)
def zTS (kd lo hi : Nat) (q : Nat × Nat × Nat) : Prop := q.1 = kd ∧ lo ≤ q.2.1 ∧ q.2.2 ≤ hi
theorem zTc.keep {S : Nat × Nat × Nat → Prop} {kd h lo hi : Nat} {r : Option Nat} {c c' : Nat → Nat × Nat × Nat} {g g' : zG} {E : List (Nat × Int32)} (hT : zTc r (fun b => zTr kd c g h b lo hi E) E) (hq : zTq S c c' g g') (hd : ∀ l r, lo ≤ l → l ≤ r → r ≤ hi → ¬ S (kd, l, r)) : zTc r (fun b => zTr kd c' g' h b lo hi E) E := by
  cases r with
  | none => exact hT
  | some b => exact zTr.keep hT hq hd
theorem zTr.new {kd : Nat} {c : Nat → Nat × Nat × Nat} {g : zG} {a lo hi : Nat} (ha : zGo g 2 a = some [.int (nI lo), .int (nI hi), .null, .null, .null]) (hc : c a = (kd, lo, hi)) (hl : lo ≤ hi) : ∀ h : Nat, hi - lo < 2 ^ h → zTr kd c g h a lo hi []
  | 0, hh => ⟨none, none, ⟨⟨none, ha, rfl⟩, hc⟩, by omega⟩
  | h + 1, _ => ⟨none, none, ⟨⟨none, ha, rfl⟩, hc⟩, hl, fun _ => ⟨rfl, rfl⟩⟩
theorem zlw_t {E : List (Nat × Int32)} {t m : Nat} {v : Int32} (h : t ≤ m) : zlw (E ++ [(t, v)]) m = zlw E m ++ [(t, v)] ∧ zup2 (E ++ [(t, v)]) m = zup2 E m := by
  unfold zlw zup2
  rw [List.filter_append, List.filter_append, List.filter_cons_of_pos (by simp [h]), List.filter_cons_of_neg (by simp; omega)]
  simp
theorem zlw_f {E : List (Nat × Int32)} {t m : Nat} {v : Int32} (h : m < t) : zup2 (E ++ [(t, v)]) m = zup2 E m ++ [(t, v)] ∧ zlw (E ++ [(t, v)]) m = zlw E m := by
  unfold zlw zup2
  rw [List.filter_append, List.filter_append, List.filter_cons_of_pos (by simp [h]), List.filter_cons_of_neg (by simp; omega)]
  simp
theorem ct_pow {lo hi h : Nat} (hh : hi - lo < 2 ^ (h + 1)) (hl : lo < hi) : (lo + hi) / 2 - lo < 2 ^ h ∧ hi - ((lo + hi) / 2 + 1) < 2 ^ h ∧ lo ≤ (lo + hi) / 2 ∧ (lo + hi) / 2 < hi := by
  rw [Nat.pow_succ] at hh
  omega
theorem va_some {a : Nat} : (va_rf (some a) : Value) = .ref a := rfl
theorem ct_add_0 (hok : zOk X) {a s t lo hi : Nat} {v : Int32} {al lw up : Option Nat} {E : List (Nat × Int32)} (hn : zGo g 2 a = some [.int (nI lo), .int (nI hi), va_rf al, va_rf lw, va_rf up]) (hSu : zSu g al E) (hs : zGo g 5 s = some [.int 1, .int v]) (hz : zGz g + 3 ≤ zz X) {D : Nat} (hD : 3 ≤ D)
    (hK : ∀ E0 : zM, zC X (D + 1) E0 RX2 cX2_add 4 none "add" → zQ X E0 K KX → ∀ (g1 : zG) (s1 : Nat), zFe (fun _ => False) g g1 → zGz g1 ≤ zGz g + 3 → zSu g1 (some s1) (E ++ [(t, v)]) → GW X E0 4 g1 25 [(0, .ref a), (1, .int (nI t)), (2, .ref s)] [.ref s1, .ref a]) : zCal X (D + 1) yX2_add wX2_add [.ref a, .int (nI t), .ref s] g K KX := by
  have one : (∃ x ∈ [(t, v)], x.2 = v) ∧ ∀ x ∈ [(t, v)], x.2 ≤ v := ⟨⟨(t, v), List.mem_singleton.mpr rfl, rfl⟩, fun x hx => by rw [List.mem_singleton.mp hx]; exact Int32.le_refl _⟩
  refine mX2_add (d := D) hok a _ s (fun E0 C hQ => ⟨_, al, hn, rfl, fun c => ?_, fun a3 c => ⟨_, al, hn, rfl, a3, c, ?_⟩⟩)
  · subst c
    have : E = [] := hSu
    subst this
    exact hK E0 C hQ g s (zFe.rf _ _) (by omega) ⟨v, hs, one⟩
  · subst c
    obtain ⟨m, h1, h2⟩ := hSu
    refine ⟨⟨5, _, h1, rfl⟩, ct_join hok h1 hs hz hD (fun s1 g1 e1 e2 => ?_)⟩
    have k1 : zGo g1 5 s1 = some [.int (nI E.length + 1), .int (if m < v then v else m)] := by rw [e2, zSz_o, zSo_o, zup_s]
    refine ⟨s1, rfl, ⟨5, _, k1, rfl⟩, ?_⟩
    refine hK E0 C hQ g1 s1 (by rw [e2]; exact zFe.new e1 _) (by rw [e2]; show zGz g + 1 + 2 ≤ _; omega) (zSu.app (m1 := m) (m2 := v) ?_ h2 one rfl)
    rw [k1, nI_1]
    rfl
/-- add: one more event in the tree -/
theorem ct_add (hok : zOk X) {kd t : Nat} {v : Int32} : ∀ (h a lo hi : Nat) (E : List (Nat × Int32)) (c : Nat → Nat × Nat × Nat) (g : zG) (s D : Nat) (K : Option Value → zG → Prop) (KX : String → zG → Prop), zTr kd c g h a lo hi E → hi - lo < 2 ^ h → hi ≤ 11000 → lo ≤ t → t ≤ hi → zGo g 5 s = some [.int 1, .int v] → zGz g + 9 * (h + 1) ≤ zz X → h + 6 ≤ D →
    (∀ (g' : zG) (c' : Nat → Nat × Nat × Nat), zTr kd c' g' h a lo hi (E ++ [(t, v)]) → zTq (zTS kd lo hi) c c' g g' → zGz g' ≤ zGz g + 9 * (h + 1) → K none g') → zCal X D yX2_add wX2_add [.ref a, .int (nI t), .ref s] g K KX := by
  intro h
  induction h with
  | zero =>
    intro a lo hi E c g s D K KX hT hh hhi hlo hth hs hz hD hK
    obtain ⟨d, rfl⟩ : ∃ d, D = d + 1 := ⟨D - 1, by omega⟩
    obtain ⟨lw, up, ⟨⟨al, h1, h2⟩, h3⟩, h4⟩ := hT
    refine ct_add_0 hok h1 h2 hs (by omega) (by omega) (fun E0 C hQ g1 s1 e1 e2 e3 => ?_)
    have n1 := e1.1 2 id _ _ h1
    refine bX2_add_25 (d := d) C hQ g1 _ _ _ _ _ ⟨_, n1, by simp, fun g2 e4 => ?_⟩
    have n2 : zGo g2 2 a = some [.int (nI lo), .int (nI hi), va_rf (some s1), va_rf lw, va_rf up] := by
      rw [e4, zSo_o, zup_s]
      rfl
    have q2 : zTq (zTS kd lo hi) c c g g2 := (zTq.fe e1).trans (by rw [e4]; exact (zTq.so h3).mono (fun q hq => by rw [hq]; exact ⟨rfl, Nat.le_refl _, Nat.le_refl _⟩))
    have hs2 : zSu g2 (some s1) (E ++ [(t, v)]) := by
      rw [e4]
      exact e3.so
    have z2 : zGz g2 = zGz g1 := by rw [e4]; rfl
    refine ⟨_, _, n2, rfl, _, _, n2, rfl, _, _, n2, rfl, _, _, n2, rfl, fun _ => ?_, fun z => absurd (nI_le (by omega) (by omega)) z⟩
    refine bX2_add_98 (d := d) C hQ g2 _ _ _ _ ⟨_, _, n2, rfl, _, _, n2, rfl, fun _ => ?_, fun z => absurd (nI_le (by omega) (by omega)) z⟩
    exact hK g2 c ⟨lw, up, ⟨⟨some s1, n2, hs2⟩, h3⟩, h4⟩ q2 (by omega)
  | succ h ih =>
    intro a lo hi E c g s D K KX hT hh hhi hlo hth hs hz hD hK
    obtain ⟨d, rfl⟩ : ∃ d, D = d + 2 := ⟨D - 2, by omega⟩
    obtain ⟨lw, up, ⟨⟨al, h1, h2⟩, h3⟩, h4, h5⟩ := hT
    refine ct_add_0 hok h1 h2 hs (by omega) (by omega) (fun E0 C hQ g1 s1 e1 e2 e3 => ?_)
    have n1 := e1.1 2 id _ _ h1
    refine bX2_add_25 (d := d + 1) C hQ g1 _ _ _ _ _ ⟨_, n1, by simp, fun g2 e4 => ?_⟩
    have n2 : zGo g2 2 a = some [.int (nI lo), .int (nI hi), va_rf (some s1), va_rf lw, va_rf up] := by
      rw [e4, zSo_o, zup_s]
      rfl
    have q2 : zTq (fun x => x = (kd, lo, hi)) c c g g2 := (zTq.fe e1).trans (by rw [e4]; exact zTq.so h3)
    have own : ∀ q, q = (kd, lo, hi) → zTS kd lo hi q := fun q hq => by rw [hq]; exact ⟨rfl, Nat.le_refl _, Nat.le_refl _⟩
    have hs2 : zSu g2 (some s1) (E ++ [(t, v)]) := by
      rw [e4]
      exact e3.so
    have z2 : zGz g2 = zGz g1 := by rw [e4]; rfl
    have mid := ct_mid hhi h4
    have st2 := (q2.1.1 5 (by omega) _ _ hs : zGo g2 5 s = some [.int 1, .int v])
    refine ⟨_, _, n2, rfl, _, _, n2, rfl, _, _, n2, rfl, _, _, n2, rfl, fun c1 => ?_, fun c1 => ?_⟩
    · have hlh : lo = hi := by
        have := (nI_leI (by omega) (by omega)).mp c1
        omega
      refine bX2_add_98 (d := d + 1) C hQ g2 _ _ _ _ ⟨_, _, n2, rfl, _, _, n2, rfl, fun _ => ?_, fun z => absurd c1 z⟩
      exact hK g2 c ⟨lw, up, ⟨⟨some s1, n2, hs2⟩, h3⟩, h4, fun z => by omega⟩ (q2.mono own) (by omega)
    · have hlh : lo < hi := by
        by_cases z : lo < hi
        · exact z
        · exact absurd (nI_le (by omega) (by omega)) c1
      obtain ⟨t1, t2⟩ := h5 hlh
      obtain ⟨w1, w2, w3, w4⟩ := ct_pow hh hlh
      have dl : ∀ l r, lo ≤ l → l ≤ r → r ≤ (lo + hi) / 2 → ¬ ((kd, l, r) : Nat × Nat × Nat) = (kd, lo, hi) := fun l r _ _ k3 z => by
        injection z with _ z
        injection z with _ z
        omega
      have du : ∀ l r, (lo + hi) / 2 + 1 ≤ l → l ≤ r → r ≤ hi → ¬ ((kd, l, r) : Nat × Nat × Nat) = (kd, lo, hi) := fun l r k1 _ _ z => by
        injection z with _ z
        injection z with z _
        omega
      have t1' := t1.keep q2 dl
      have t2' := t2.keep q2 du
      rw [mid]
      -- behind the child's
      have finL : ∀ (b : Nat) (g3 g4 : zG) (c3 c4 : Nat → Nat × Nat × Nat), t ≤ (lo + hi) / 2 → zGo g3 2 a = some [.int (nI lo), .int (nI hi), va_rf (some s1), va_rf (some b), va_rf up] → c3 a = (kd, lo, hi) → zTq (zTS kd lo hi) c c3 g g3 → zSu g3 (some s1) (E ++ [(t, v)]) → zTc up (fun b => zTr kd c3 g3 h b ((lo + hi) / 2 + 1) hi (zup2 E ((lo + hi) / 2))) (zup2 E ((lo + hi) / 2)) → zGz g3 ≤ zGz g + 9 → zTr kd c4 g4 h b lo ((lo + hi) / 2) (zlw E ((lo + hi) / 2) ++ [(t, v)]) → zTq (zTS kd lo ((lo + hi) / 2)) c3 c4 g3 g4 → zGz g4 ≤ zGz g3 + 9 * (h + 1) → K none g4 := by
        intro b g3 g4 c3 c4 ht k1 k2 k3 k4 k5 k6 k7 k8 k9
        obtain ⟨f1, f2⟩ := zlw_t (E := E) (v := v) ht
        refine hK g4 c4 ⟨some b, up, ⟨⟨some s1, k8.2.2.2 a _ k1 (fun z => ?_), k4.fe k8.1 (by omega)⟩, (k8.2.1 a _ k1).trans k2⟩, h4, fun _ => ⟨?_, ?_⟩⟩ (k3.trans (k8.mono (fun q hq => ⟨hq.1, hq.2.1, by have := hq.2.2; omega⟩))) (by omega)
        · rw [k2] at z
          have : hi ≤ (lo + hi) / 2 := z.2.2
          omega
        · rw [f1]
          exact k7
        · rw [f2]
          exact k5.keep k8 (fun l r j1 j2 j3 z => by
            have : r ≤ (lo + hi) / 2 := z.2.2
            omega)
      have finU : ∀ (b : Nat) (g3 g4 : zG) (c3 c4 : Nat → Nat × Nat × Nat), (lo + hi) / 2 < t → zGo g3 2 a = some [.int (nI lo), .int (nI hi), va_rf (some s1), va_rf lw, va_rf (some b)] → c3 a = (kd, lo, hi) → zTq (zTS kd lo hi) c c3 g g3 → zSu g3 (some s1) (E ++ [(t, v)]) → zTc lw (fun b => zTr kd c3 g3 h b lo ((lo + hi) / 2) (zlw E ((lo + hi) / 2))) (zlw E ((lo + hi) / 2)) → zGz g3 ≤ zGz g + 9 → zTr kd c4 g4 h b ((lo + hi) / 2 + 1) hi (zup2 E ((lo + hi) / 2) ++ [(t, v)]) → zTq (zTS kd ((lo + hi) / 2 + 1) hi) c3 c4 g3 g4 → zGz g4 ≤ zGz g3 + 9 * (h + 1) → K none g4 := by
        intro b g3 g4 c3 c4 ht k1 k2 k3 k4 k5 k6 k7 k8 k9
        obtain ⟨f1, f2⟩ := zlw_f (E := E) (v := v) ht
        refine hK g4 c4 ⟨lw, some b, ⟨⟨some s1, k8.2.2.2 a _ k1 (fun z => ?_), k4.fe k8.1 (by omega)⟩, (k8.2.1 a _ k1).trans k2⟩, h4, fun _ => ⟨?_, ?_⟩⟩ (k3.trans (k8.mono (fun q hq => ⟨hq.1, by have := hq.2.1; omega, hq.2.2⟩))) (by omega)
        · rw [k2] at z
          have : (lo + hi) / 2 + 1 ≤ lo := z.2.1
          omega
        · rw [f2]
          exact k5.keep k8 (fun l r j1 j2 j3 z => by
            have : (lo + hi) / 2 + 1 ≤ l := z.2.1
            omega)
        · rw [f1]
          exact k7
      have hab : ∀ b, zFr g2 b → a ≠ b := fun b hb z => by
        rw [z, hb.1 2] at n2
        cases n2
      -- the upper half
      have upper : (lo + hi) / 2 < t → GW X E0 4 g2 98 [(0, .ref a), (1, .int (nI t)), (2, .ref s), (3, .int (nI ((lo + hi) / 2)))] [] := by
        intro ht
        refine bX2_add_98 (d := d + 1) C hQ g2 _ _ _ _ ⟨_, _, n2, rfl, _, _, n2, rfl, fun z => absurd z c1, fun _ => ⟨_, up, n2, rfl, fun cn => ?_, fun b cb => ?_⟩⟩
        · subst cn
          refine ⟨by omega, fun b hb g3 e5 => ?_⟩
          have hne := hab b hb
          have n3 : zGo g3 2 a = some [.int (nI lo), .int (nI hi), va_rf (some s1), va_rf lw, va_rf none] := by
            rw [e5, zSz_o, zSo_o, zup_a _ _ _ _ hne]
            exact n2
          have b3 : zGo g3 2 b = some [.int 0, .int 0, .null, .null, .null] := by
            rw [e5, zSz_o, zSo_o, zup_s]
          refine ⟨_, _, n3, rfl, cp_Tree (d := d) hok b3 ⟨rfl, ?_⟩⟩
          have e6 : zSo g3 2 b [.int (nI ((lo + hi) / 2) + 1), .int (nI hi), .null, .null, .null] = zSz (zSo g2 2 b [.int (nI ((lo + hi) / 2) + 1), .int (nI hi), .null, .null, .null]) (zGz g2 + 1 + 5) := by
            rw [e5, zSo_sz, zSo_so]
          rw [e6]
          generalize e7 : zSz (zSo g2 2 b [.int (nI ((lo + hi) / 2) + 1), .int (nI hi), .null, .null, .null]) (zGz g2 + 1 + 5) = g5
          have q5 : zTq (fun x => x = (kd, lo, hi)) c (zcu c b (kd, (lo + hi) / 2 + 1, hi)) g2 g5 := zTq.new hb e7.symm
          have n5 : zGo g5 2 a = some [.int (nI lo), .int (nI hi), va_rf (some s1), va_rf lw, va_rf none] := by
            rw [← e7, zSz_o, zSo_o, zup_a _ _ _ _ hne]
            exact n2
          have b5 : zGo g5 2 b = some [.int (nI ((lo + hi) / 2 + 1)), .int (nI hi), .null, .null, .null] := by
            rw [← e7, zSz_o, zSo_o, zup_s, nI_1]
          have z5 : zGz g5 = zGz g2 + 6 := by rw [← e7]; rfl
          refine ⟨_, n5, by simp, fun g6 e8 => ?_⟩
          have n6 : zGo g6 2 a = some [.int (nI lo), .int (nI hi), va_rf (some s1), va_rf lw, va_rf (some b)] := by
            rw [e8, zSo_o, zup_s]
            rfl
          have b6 : zGo g6 2 b = some [.int (nI ((lo + hi) / 2 + 1)), .int (nI hi), .null, .null, .null] := by
            rw [e8, zSo_o, zup_a _ _ _ _ hne.symm]
            exact b5
          have ca : zcu c b (kd, (lo + hi) / 2 + 1, hi) a = (kd, lo, hi) := (if_neg hne).trans h3
          have q6 : zTq (fun x => x = (kd, lo, hi)) c (zcu c b (kd, (lo + hi) / 2 + 1, hi)) g2 g6 := q5.trans (by rw [e8]; exact zTq.so ca)
          have z6 : zGz g6 = zGz g5 := by rw [e8]; rfl
          refine ⟨_, some b, n6, rfl, b, rfl, ⟨2, _, b6, rfl⟩, ?_⟩
          refine ih b ((lo + hi) / 2 + 1) hi (zup2 E ((lo + hi) / 2)) (zcu c b (kd, (lo + hi) / 2 + 1, hi)) g6 s _ _ _ ?_ w2 hhi ht hth (q6.1.1 5 (by omega) _ _ st2) (by omega) (by omega) (fun g7 c7 y1 y2 y3 => ⟨rfl, finU b g6 g7 _ c7 ht n6 ca ((q2.trans q6).mono own) (hs2.fe q6.1 (by omega)) (t1'.keep q6 dl) (by omega) y1 y2 y3⟩)
          rw [show zup2 E ((lo + hi) / 2) = [] from t2]
          exact zTr.new b6 (if_pos rfl) (by omega) h w2
        · subst cb
          refine ⟨_, some b, n2, rfl, _, n2, by simp, fun g6 e8 => ?_⟩
          have n6 : zGo g6 2 a = some [.int (nI lo), .int (nI hi), va_rf (some s1), va_rf lw, va_rf (some b)] := by
            rw [e8, zSo_o, zup_s]
            rfl
          have q6 : zTq (fun x => x = (kd, lo, hi)) c c g2 g6 := by rw [e8]; exact zTq.so h3
          have t2b : zTr kd c g6 h b ((lo + hi) / 2 + 1) hi (zup2 E ((lo + hi) / 2)) := zTr.keep t2' q6 du
          have z6 : zGz g6 = zGz g2 := by rw [e8]; rfl
          obtain ⟨lw3, up3, ⟨⟨al3, b6, -⟩, -⟩, -⟩ := t2b.top
          refine ⟨_, some b, n6, rfl, b, rfl, ⟨2, _, b6, rfl⟩, ?_⟩
          exact ih b ((lo + hi) / 2 + 1) hi (zup2 E ((lo + hi) / 2)) c g6 s _ _ _ t2b w2 hhi ht hth (q6.1.1 5 (by omega) _ _ st2) (by omega) (by omega) (fun g7 c7 y1 y2 y3 => ⟨rfl, finU b g6 g7 _ c7 ht n6 h3 ((q2.trans q6).mono own) (hs2.fe q6.1 (by omega)) (t1'.keep q6 dl) (by omega) y1 y2 y3⟩)
      refine ⟨fun c2 => upper ?_, fun c2 => ?_⟩
      · exact (nI_ltI (by omega) (by omega)).mp c2
      · have ht : t ≤ (lo + hi) / 2 := by
          by_cases z : t ≤ (lo + hi) / 2
          · exact z
          · exact absurd (nI_lt (by omega) (by omega)) c2
        refine ⟨_, lw, n2, rfl, fun cn => ?_, fun b cb => ?_⟩
        · subst cn
          refine ⟨by omega, fun b hb g3 e5 => ?_⟩
          have hne := hab b hb
          have n3 : zGo g3 2 a = some [.int (nI lo), .int (nI hi), va_rf (some s1), va_rf none, va_rf up] := by
            rw [e5, zSz_o, zSo_o, zup_a _ _ _ _ hne]
            exact n2
          have b3 : zGo g3 2 b = some [.int 0, .int 0, .null, .null, .null] := by
            rw [e5, zSz_o, zSo_o, zup_s]
          refine ⟨_, _, n3, rfl, cp_Tree (d := d) hok b3 ⟨rfl, ?_⟩⟩
          have e6 : zSo g3 2 b [.int (nI lo), .int (nI ((lo + hi) / 2)), .null, .null, .null] = zSz (zSo g2 2 b [.int (nI lo), .int (nI ((lo + hi) / 2)), .null, .null, .null]) (zGz g2 + 1 + 5) := by
            rw [e5, zSo_sz, zSo_so]
          rw [e6]
          generalize e7 : zSz (zSo g2 2 b [.int (nI lo), .int (nI ((lo + hi) / 2)), .null, .null, .null]) (zGz g2 + 1 + 5) = g5
          have q5 : zTq (fun x => x = (kd, lo, hi)) c (zcu c b (kd, lo, (lo + hi) / 2)) g2 g5 := zTq.new hb e7.symm
          have n5 : zGo g5 2 a = some [.int (nI lo), .int (nI hi), va_rf (some s1), va_rf none, va_rf up] := by
            rw [← e7, zSz_o, zSo_o, zup_a _ _ _ _ hne]
            exact n2
          have b5 : zGo g5 2 b = some [.int (nI lo), .int (nI ((lo + hi) / 2)), .null, .null, .null] := by
            rw [← e7, zSz_o, zSo_o, zup_s]
          have z5 : zGz g5 = zGz g2 + 6 := by rw [← e7]; rfl
          refine ⟨_, n5, by simp, fun g6 e8 => ?_⟩
          have n6 : zGo g6 2 a = some [.int (nI lo), .int (nI hi), va_rf (some s1), va_rf (some b), va_rf up] := by
            rw [e8, zSo_o, zup_s]
            rfl
          have b6 : zGo g6 2 b = some [.int (nI lo), .int (nI ((lo + hi) / 2)), .null, .null, .null] := by
            rw [e8, zSo_o, zup_a _ _ _ _ hne.symm]
            exact b5
          have ca : zcu c b (kd, lo, (lo + hi) / 2) a = (kd, lo, hi) := (if_neg hne).trans h3
          have q6 : zTq (fun x => x = (kd, lo, hi)) c (zcu c b (kd, lo, (lo + hi) / 2)) g2 g6 := q5.trans (by rw [e8]; exact zTq.so ca)
          have z6 : zGz g6 = zGz g5 := by rw [e8]; rfl
          refine ⟨_, some b, n6, rfl, b, rfl, ⟨2, _, b6, rfl⟩, ?_⟩
          refine ih b lo ((lo + hi) / 2) (zlw E ((lo + hi) / 2)) (zcu c b (kd, lo, (lo + hi) / 2)) g6 s _ _ _ ?_ w1 (by omega) hlo ht (q6.1.1 5 (by omega) _ _ st2) (by omega) (by omega) (fun g7 c7 y1 y2 y3 => ⟨rfl, finL b g6 g7 _ c7 ht n6 ca ((q2.trans q6).mono own) (hs2.fe q6.1 (by omega)) (t2'.keep q6 du) (by omega) y1 y2 y3⟩)
          rw [show zlw E ((lo + hi) / 2) = [] from t1]
          exact zTr.new b6 (if_pos rfl) w3 h w1
        · subst cb
          refine ⟨_, some b, n2, rfl, _, n2, by simp, fun g6 e8 => ?_⟩
          have n6 : zGo g6 2 a = some [.int (nI lo), .int (nI hi), va_rf (some s1), va_rf (some b), va_rf up] := by
            rw [e8, zSo_o, zup_s]
            rfl
          have q6 : zTq (fun x => x = (kd, lo, hi)) c c g2 g6 := by rw [e8]; exact zTq.so h3
          have t1b : zTr kd c g6 h b lo ((lo + hi) / 2) (zlw E ((lo + hi) / 2)) := zTr.keep t1' q6 dl
          have z6 : zGz g6 = zGz g2 := by rw [e8]; rfl
          obtain ⟨lw3, up3, ⟨⟨al3, b6, -⟩, -⟩, -⟩ := t1b.top
          refine ⟨_, some b, n6, rfl, b, rfl, ⟨2, _, b6, rfl⟩, ?_⟩
          exact ih b lo ((lo + hi) / 2) (zlw E ((lo + hi) / 2)) c g6 s _ _ _ t1b w1 (by omega) hlo ht (q6.1.1 5 (by omega) _ _ st2) (by omega) (by omega) (fun g7 c7 y1 y2 y3 => ⟨rfl, finL b g6 g7 _ c7 ht n6 h3 ((q2.trans q6).mono own) (hs2.fe q6.1 (by omega)) (t2'.keep q6 du) (by omega) y1 y2 y3⟩)
end TRS
