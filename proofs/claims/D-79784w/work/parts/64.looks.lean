set_option maxRecDepth 100000
/-- the greater of two bounds, and two together -/
def zgr (a b : Int32) : Int32 := if a = -1 ∨ b = -1 then -1 else if a ≤ b then b else a
def ztt (a b : Int32) : Int32 := if a = -1 ∨ b = -1 then -1 else a + b
/-- by how much the part at p looks, by what its parts do -/
def zlI (fa : Nat → Nat → Int32) (base : Nat) (tab : Nat → Int32) (p : Nat) : Int32 :=
  let w := fa 16 (base + p)
  if w = 0 ∨ w = 1 then 0 else if w = 3 ∨ w = 4 ∨ w = 6 ∨ w = 9 then zgr (zgr 0 (tab (p - 1))) (tab (zf1 fa base p)) else zgr 0 (tab (p - 1))
def zlW (w two its : Int32) (back : Bool) : Int32 :=
  if w = 5 then if back = true then -1 else its
  else if w = 8 then if back = true then its else -1
  else if w = 6 ∨ w = 7 ∨ w = 11 then if back = true then ztt two its else its
  else if w = 9 ∨ w = 10 then if back = true then its else ztt two its
  else its
def zlT (fa : Nat → Nat → Int32) (base : Nat) (back : Bool) : Nat → Nat → Int32
  | 0 => fun _ => 0
  | n + 1 => fun p => if p = n then zlW (fa 16 (base + p)) (fa 18 (base + p)) (zlI fa base (zlT fa base back n) p) back else zlT fa base back n p
def zlV (fa : Nat → Nat → Int32) (base : Nat) (back : Bool) (p : Nat) : Int32 := zlT fa base back (p + 1) p
theorem zlT_V (fa : Nat → Nat → Int32) (base : Nat) (back : Bool) (p : Nat) : ∀ n : Nat, p < n → zlT fa base back n p = zlV fa base back p
  | 0, h => absurd h (Nat.not_lt_zero p)
  | n + 1, h => by
    by_cases c : p = n
    · subst c
      rfl
    · show (if p = n then _ else zlT fa base back n p) = _
      rw [if_neg c]
      exact zlT_V fa base back p n (by omega)
theorem zlV_st (fa : Nat → Nat → Int32) (base : Nat) (back : Bool) (p : Nat) : zlV fa base back p = zlW (fa 16 (base + p)) (fa 18 (base + p)) (zlI fa base (zlT fa base back p) p) back := by
  show (if p = p then _ else _) = _
  rw [if_pos rfl]
theorem zw_ay {fa : Nat → Nat → Int32} {base p w : Nat} (hw : w < 12) (h : fa 16 (base + p) = nI w) (tab : Nat → Int32) : zlI fa base tab p = if zay w = 0 then 0 else if zay w = 2 then zgr (zgr 0 (tab (p - 1))) (tab (zf1 fa base p)) else zgr 0 (tab (p - 1)) := by
  unfold zlI
  simp only []
  rw [h]
  have : w = 0 ∨ w = 1 ∨ w = 2 ∨ w = 3 ∨ w = 4 ∨ w = 5 ∨ w = 6 ∨ w = 7 ∨ w = 8 ∨ w = 9 ∨ w = 10 ∨ w = 11 := by omega
  rcases this with rfl | rfl | rfl | rfl | rfl | rfl | rfl | rfl | rfl | rfl | rfl | rfl
  · rw [if_pos (by decide), if_pos (by decide)]
  · rw [if_pos (by decide), if_pos (by decide)]
  · rw [if_neg (by decide), if_neg (by decide), if_neg (by decide), if_neg (by decide)]
  · rw [if_neg (by decide), if_pos (by decide), if_neg (by decide), if_pos (by decide)]
  · rw [if_neg (by decide), if_pos (by decide), if_neg (by decide), if_pos (by decide)]
  · rw [if_neg (by decide), if_neg (by decide), if_neg (by decide), if_neg (by decide)]
  · rw [if_neg (by decide), if_pos (by decide), if_neg (by decide), if_pos (by decide)]
  · rw [if_neg (by decide), if_neg (by decide), if_neg (by decide), if_neg (by decide)]
  · rw [if_neg (by decide), if_neg (by decide), if_neg (by decide), if_neg (by decide)]
  · rw [if_neg (by decide), if_pos (by decide), if_neg (by decide), if_pos (by decide)]
  · rw [if_neg (by decide), if_neg (by decide), if_neg (by decide), if_neg (by decide)]
  · rw [if_neg (by decide), if_neg (by decide), if_neg (by decide), if_neg (by decide)]
theorem zay_3 (w : Nat) : zay w = 0 ∨ zay w = 1 ∨ zay w = 2 := by
  unfold zay
  split
  · exact Or.inl rfl
  · split
    · exact Or.inr (Or.inr rfl)
    · exact Or.inr (Or.inl rfl)
theorem zwf_pos {fa : Nat → Nat → Int32} {base n p : Nat} (hw : zwf fa base n) (hp : p < n) : 1 ≤ zsz fa (base + p) := by
  obtain ⟨w, h1, h2, h3, h4, h5, h6, h7⟩ := hw p hp
  rcases zay_3 w with c | c | c
  · have := h5 c
    omega
  · have := h6 c
    omega
  · have := h7 c
    omega
theorem zlI_cg {fa : Nat → Nat → Int32} {base n p : Nat} (hw : zwf fa base n) (hp : p < n) {tab tab' : Nat → Int32} (h : ∀ q, q < p → tab q = tab' q) : zlI fa base tab p = zlI fa base tab' p := by
  obtain ⟨w, h1, h2, h3, h4, h5, h6, h7⟩ := hw p hp
  rw [zw_ay h1 h2, zw_ay h1 h2]
  rcases zay_3 w with c | c | c
  · rw [if_pos c, if_pos c]
  · have := (h6 c).1
    have c0 : ¬ zay w = 0 := by omega
    have c2 : ¬ zay w = 2 := by omega
    rw [if_neg c0, if_neg c0, if_neg c2, if_neg c2, h (p - 1) (by omega)]
  · have := (h7 c).1
    have c0 : ¬ zay w = 0 := by omega
    rw [if_neg c0, if_neg c0, if_pos c, if_pos c, h (p - 1) (by omega), h (zf1 fa base p) (by unfold zf1; omega)]
section LKS
variable {X : zX} {d : Nat} {g : zG} {K : Option Value → zG → Prop} {KX : String → zG → Prop} {m : Nat} {fi : Nat → Int32} {ad : Nat → Nat} {fa : Nat → Nat → Int32}
theorem mp_greater (hok : zOk X) {a b : Int32} (hK : K (some (.int (zgr a b))) g) : zCal X d yX3_greater wX3_greater [.int a, .int b] g K KX := by
  unfold zgr at hK
  refine mX3_greater hok _ _ ⟨fun c => ?_, fun c => ⟨fun c2 => ⟨fun c3 => ?_, fun c3 => ?_⟩, fun c2 => ?_⟩⟩
  · rw [if_pos (Or.inl c)] at hK
    exact hK
  · rw [if_neg (fun z => z.elim c c2), if_pos c3] at hK
    exact hK
  · rw [if_neg (fun z => z.elim c c2), if_neg c3] at hK
    exact hK
  · rw [if_pos (Or.inr c2)] at hK
    exact hK
theorem mp_together (hok : zOk X) {a b : Int32} (hK : K (some (.int (ztt a b))) g) : zCal X d yX3_together wX3_together [.int a, .int b] g K KX := by
  unfold ztt at hK
  refine mX3_together hok _ _ ⟨fun c => ?_, fun c => ⟨fun c2 => ?_, fun c2 => ?_⟩⟩
  · rw [if_pos (Or.inl c)] at hK
    exact hK
  · rw [if_neg (fun z => z.elim c c2)] at hK
    exact hK
  · rw [if_pos (Or.inr c2)] at hK
    exact hK
theorem mp_looks (hok : zOk X) (hM : zMd g m fi ad fa) {q w : Nat} (hq : q < 336) (hw : w < 12) (h16 : fa 16 q = nI w) {its : Int32} {b : Bool} (hK : K (some (.int (zlW (fa 16 q) (fa 18 q) its b))) g) : zCal X (d + 1) yX3_looks wX3_looks [.ref m, .int (nI q), .int its, .int (zbI b)] g K KX := by
  have hcl : (nI q).toNatClampNeg = q := nI_clamp (by omega)
  have b1 : (zbI b = 0 ↔ b = false) := zbI_0
  have bt : ∀ c : zbI b = 0, b = false := fun c => b1.mp c
  have bf : ∀ c : ¬ zbI b = 0, b = true := fun c => by
    cases b with
    | true => rfl
    | false => exact absurd rfl c
  refine mX3_looks hok m _ _ _ ⟨_, _, hM.1, rfl, _, _, hM.2 16 (by decide), (zin 336 rfl (by omega) (by omega)), fun v hv => ?_⟩
  rw [hcl] at hv
  subst hv
  unfold zlW at hK
  have tg : K (some (.int (ztt (fa 18 q) its))) g → ∃ (fs_7 : List Value) (a_8 : Nat), zGo g 3 m = some fs_7 ∧ fs_7[18]? = some (.ref a_8) ∧ ∃ (n_9 : Nat) (f_10 : Nat → Int32), zGi g 18 a_8 = some (n_9, f_10) ∧ vp_in (nI q) n_9 ∧ ∀ v_11 : Int32, v_11 = f_10 (nI q).toNatClampNeg → zCal X d yX3_together wX3_together [.int v_11, .int its] g (fun r g_12 => ∃ v_13 : Int32, r = some (.int v_13) ∧ K (some (.int v_13)) g_12) KX := fun hk => ⟨_, _, hM.1, rfl, _, _, hM.2 18 (by decide), (zin 336 rfl (by omega) (by omega)), fun v hv => by
    rw [hcl] at hv
    subst hv
    exact mp_together hok ⟨_, rfl, hk⟩⟩
  refine ⟨fun c => ?_, fun c => ?_, fun c => ?_, fun c => ?_, fun c => ?_, fun c => ?_, fun c => ?_, fun c => ?_⟩
  · rw [c, if_pos rfl] at hK
    refine ⟨fun z => ?_, fun z => ?_⟩
    · rw [bt z] at hK
      exact hK
    · rw [bf z] at hK
      exact hK
  · rw [c, if_neg (by decide), if_neg (by decide), if_pos (by decide)] at hK
    refine ⟨fun z => ?_, fun z => tg ?_⟩
    · rw [bt z] at hK
      exact hK
    · rw [bf z] at hK
      exact hK
  · rw [c, if_neg (by decide), if_neg (by decide), if_pos (by decide)] at hK
    refine ⟨fun z => ?_, fun z => tg ?_⟩
    · rw [bt z] at hK
      exact hK
    · rw [bf z] at hK
      exact hK
  · rw [c, if_neg (by decide), if_pos (by decide)] at hK
    refine ⟨fun z => ?_, fun z => ?_⟩
    · rw [bt z] at hK
      exact hK
    · rw [bf z] at hK
      exact hK
  · rw [c, if_neg (by decide), if_neg (by decide), if_neg (by decide), if_pos (by decide)] at hK
    refine ⟨fun z => tg ?_, fun z => ?_⟩
    · rw [bt z] at hK
      exact hK
    · rw [bf z] at hK
      exact hK
  · rw [c, if_neg (by decide), if_neg (by decide), if_neg (by decide), if_pos (by decide)] at hK
    refine ⟨fun z => tg ?_, fun z => ?_⟩
    · rw [bt z] at hK
      exact hK
    · rw [bf z] at hK
      exact hK
  · rw [c, if_neg (by decide), if_neg (by decide), if_pos (by decide)] at hK
    refine ⟨fun z => ?_, fun z => tg ?_⟩
    · rw [bt z] at hK
      exact hK
    · rw [bf z] at hK
      exact hK
  · rw [h16] at c hK
    rw [nI_toInt (by omega)] at c
    have : w = 0 ∨ w = 1 ∨ w = 2 ∨ w = 3 ∨ w = 4 := by omega
    rcases this with rfl | rfl | rfl | rfl | rfl
    · rw [if_neg (by decide), if_neg (by decide), if_neg (by decide), if_neg (by decide)] at hK
      exact hK
    · rw [if_neg (by decide), if_neg (by decide), if_neg (by decide), if_neg (by decide)] at hK
      exact hK
    · rw [if_neg (by decide), if_neg (by decide), if_neg (by decide), if_neg (by decide)] at hK
      exact hK
    · rw [if_neg (by decide), if_neg (by decide), if_neg (by decide), if_neg (by decide)] at hK
      exact hK
    · rw [if_neg (by decide), if_neg (by decide), if_neg (by decide), if_neg (by decide)] at hK
      exact hK
/-- one part is looked at, with what its parts look -/
theorem mp_looksAll_p (hok : zOk X) {i p n : Nat} {b : Bool} (hi : i < 6) (hn : n ≤ 24) (hp : p < n) (hw : zwf fa (192 + 24 * i) n) {E : zM} (C : zC X (d + 2) E RX3 cX3_looksAll 7 (some .int) "looksAll") (hQ : zQ X E K KX) {fa' : Nat → Nat → Int32} (hM : zMd g m fi ad fa') (hf : ∀ j, j ≠ 32 → fa' j = fa j) (h32 : ∀ q, q < p → fa' 32 q = zlV fa (192 + 24 * i) b q)
    (hK : ∀ (g' : zG), zMd g' m fi ad (va_up fa' 32 (upd (fa' 32) p (zlV fa (192 + 24 * i) b p))) → zNm g g' → GW X E 7 g' 8 [(0, .ref m), (1, .int (nI i)), (2, .int (zbI b)), (3, .int (nI (192 + 24 * i))), (4, .int (nI (p + 1)))] []) :
    GW X E 7 g 28 [(0, .ref m), (1, .int (nI i)), (2, .int (zbI b)), (3, .int (nI (192 + 24 * i))), (4, .int (nI p)), (5, .int 0), (6, .int (nI p - 1))] [] := by
  obtain ⟨w, w1, w2, w3, w4, w5, w6, w7⟩ := hw p hp
  have hpos := zwf_pos hw hp
  have f19 : ∀ q, q < n → fa' 19 (192 + 24 * i + q) = nI (zsz fa (192 + 24 * i + q)) := fun q hq => by
    rw [hf 19 (by decide)]
    obtain ⟨_, _, _, h3, _⟩ := hw q hq
    exact h3
  -- the end: the part is looked at
  have fin : ∀ (its : Int32) (x6 : Int32), its = zlI fa (192 + 24 * i) (zlT fa (192 + 24 * i) b p) p → x6 = nI p - nI (zsz fa (192 + 24 * i + p)) → GW X E 7 g 28 [(0, .ref m), (1, .int (nI i)), (2, .int (zbI b)), (3, .int (nI (192 + 24 * i))), (4, .int (nI p)), (5, .int its), (6, .int x6)] [] := by
    intro its x6 hits hx
    refine bX3_looksAll_28 (d := d + 1) C hQ g m _ _ _ _ _ _ ?_
    rw [nI_add]
    refine ⟨_, _, hM.1, rfl, _, _, hM.2 19 (by decide), (zin 336 rfl (by omega) (by omega)), fun v hv => ?_⟩
    rw [nI_clamp (by omega), f19 p hp] at hv
    subst hv
    rw [hx]
    refine ⟨fun _ => ⟨_, _, hM.1, rfl, hM.is, mp_looks hok hM (w := w) (by omega) w1 (by rw [hf 16 (by decide)]; exact w2) ⟨_, rfl, _, _, hM.2 32 (by decide), (zin 1920 rfl (by omega) (by omega)), fun g2 e2 => ?_⟩⟩, fun z => absurd (Int32.le_refl _) z⟩
    rw [nI_clamp (by omega), hf 16 (by decide), hf 18 (by decide), hits, ← zlV_st] at e2
    rw [← nI_succ]
    exact hK g2 (hM.sa (j := 32) (by decide) e2) (zNm.sa (j := 32) (by decide) e2)
  -- a child is looked at
  have step : ∀ (its : Int32) (q : Nat), q < p → p < q + zsz fa (192 + 24 * i + p) → (∀ x6 : Int32, x6 = nI q - nI (zsz fa (192 + 24 * i + q)) → GW X E 7 g 28 [(0, .ref m), (1, .int (nI i)), (2, .int (zbI b)), (3, .int (nI (192 + 24 * i))), (4, .int (nI p)), (5, .int (zgr its (zlV fa (192 + 24 * i) b q))), (6, .int x6)] []) → GW X E 7 g 28 [(0, .ref m), (1, .int (nI i)), (2, .int (zbI b)), (3, .int (nI (192 + 24 * i))), (4, .int (nI p)), (5, .int its), (6, .int (nI q))] [] := by
    intro its q hq hsz k
    refine bX3_looksAll_28 (d := d + 1) C hQ g m _ _ _ _ _ _ ?_
    rw [nI_add, nI_add]
    refine ⟨_, _, hM.1, rfl, _, _, hM.2 19 (by decide), (zin 336 rfl (by omega) (by omega)), fun v hv => ?_⟩
    rw [nI_clamp (by omega), f19 p hp] at hv
    subst hv
    refine ⟨fun z => ?_, fun _ => ⟨_, _, hM.1, rfl, _, _, hM.2 32 (by decide), (zin 1920 rfl (by omega) (by omega)), fun v hv => mp_greater hok ⟨_, rfl, _, _, hM.1, rfl, _, _, hM.2 19 (by decide), (zin 336 rfl (by omega) (by omega)), fun v2 hv2 => ?_⟩⟩⟩
    · exfalso
      have h1 := Int32.le_iff_toInt_le.mp z
      rw [pk_sub_toInt (by omega) (by omega), nI_toInt (by omega)] at h1
      omega
    · rw [nI_clamp (by omega), h32 q hq] at hv
      rw [nI_clamp (by omega), f19 q (by omega)] at hv2
      subst hv hv2
      exact k _ rfl
  rw [zw_ay w1 w2] at fin
  rcases zay_3 w with c | c | c
  · have := w5 c
    exact fin _ _ (by rw [if_pos c]) (by rw [this]; rfl)
  · obtain ⟨c1, c2⟩ := w6 c
    obtain ⟨p', rfl⟩ : ∃ p', p = p' + 1 := ⟨p - 1, by omega⟩
    rw [Nat.add_sub_cancel] at c2 fin
    have hp1 := zwf_pos hw (p := p') (by omega)
    have c0 : ¬ zay w = 0 := by omega
    have cc2 : ¬ zay w = 2 := by omega
    rw [nI_pred]
    refine step 0 p' (by omega) (by omega) (fun x6 hx => fin _ _ ?_ ?_)
    · rw [if_neg c0, if_neg cc2, zlT_V _ _ _ _ _ (by omega)]
    · rw [hx, c2]
      have := w4
      apply Int32.toInt_inj.mp
      rw [pk_sub_toInt (by omega) (by omega), pk_sub_toInt (by omega) (by omega)]
      omega
  · obtain ⟨c1, c2, c3⟩ := w7 c
    obtain ⟨p', rfl⟩ : ∃ p', p = p' + 1 := ⟨p - 1, by omega⟩
    rw [Nat.add_sub_cancel] at c2 c3 fin
    rw [nI_pred]
    have hF : zf1 fa (192 + 24 * i) (p' + 1) = p' - zsz fa (192 + 24 * i + p') := by
      unfold zf1 zsz
      rw [Nat.add_sub_cancel]
    have hp1 := zwf_pos hw (p := p') (by omega)
    have hp2 := zwf_pos hw (p := p' - zsz fa (192 + 24 * i + p')) (by omega)
    refine step 0 p' (by omega) (by omega) (fun x6 hx => ?_)
    rw [pk_sub c2] at hx
    subst hx
    refine step _ (p' - zsz fa (192 + 24 * i + p')) (by omega) (by omega) (fun x6 hx => fin _ _ ?_ ?_)
    · rw [if_neg (show ¬ zay w = 0 by omega), if_pos c, hF, zlT_V _ _ _ _ _ (by omega), zlT_V _ _ _ _ _ (by omega)]
    · rw [hx, c3]
      apply Int32.toInt_inj.mp
      rw [pk_sub_toInt (by omega) (by omega), pk_sub_toInt (by omega) (by omega)]
      omega
theorem mp_looksAll_l (hok : zOk X) {i n : Nat} {b : Bool} (hi : i < 6) (hn : n ≤ 24) (hn0 : 0 < n) (hw : zwf fa (192 + 24 * i) n) (hends : fa 23 i = nI n) {E : zM} (C : zC X (d + 2) E RX3 cX3_looksAll 7 (some .int) "looksAll") (hQ : zQ X E K KX)
    (hK : ∀ (g' : zG) (fa' : Nat → Nat → Int32), zMd g' m fi ad fa' → zNm g g' → (∀ j, j ≠ 32 → fa' j = fa j) → K (some (.int (zlV fa (192 + 24 * i) b (n - 1)))) g') : ∀ (c p : Nat) (g1 : zG) (fa' : Nat → Nat → Int32), n = p + c → zMd g1 m fi ad fa' → zNm g g1 → (∀ j, j ≠ 32 → fa' j = fa j) → (∀ q, q < p → fa' 32 q = zlV fa (192 + 24 * i) b q) →
    GW X E 7 g1 8 [(0, .ref m), (1, .int (nI i)), (2, .int (zbI b)), (3, .int (nI (192 + 24 * i))), (4, .int (nI p))] []
  | 0, p, g1, fa', hc, hM, hN, hf, h32 => by
    have : n = p := by omega
    subst this
    refine bX3_looksAll_8 (d := d + 1) C hQ g1 m _ _ _ _ ⟨_, _, hM.1, rfl, _, _, hM.2 23 (by decide), (zin 6 rfl (by omega) (by omega)), fun v hv => ?_⟩
    rw [nI_clamp (by omega), hf 23 (by decide), hends] at hv
    subst hv
    refine ⟨fun _ => ⟨_, _, hM.1, rfl, _, _, hM.1, rfl, _, _, hM.2 23 (by decide), (zin 6 rfl (by omega) (by omega)), fun v hv => ?_⟩, fun z => absurd (nI_le (Nat.le_refl _) (by omega)) z⟩
    rw [nI_clamp (by omega), hf 23 (by decide), hends] at hv
    subst hv
    obtain ⟨n', rfl⟩ : ∃ n', n = n' + 1 := ⟨n - 1, by omega⟩
    rw [nI_pred]
    refine ⟨_, _, hM.2 32 (by decide), (zin 1920 rfl (by omega) (by omega)), fun v hv => ?_⟩
    rw [nI_clamp (by omega), h32 n' (by omega)] at hv
    subst hv
    exact hK g1 fa' hM hN hf
  | c + 1, p, g1, fa', hc, hM, hN, hf, h32 => by
    refine bX3_looksAll_8 (d := d + 1) C hQ g1 m _ _ _ _ ⟨_, _, hM.1, rfl, _, _, hM.2 23 (by decide), (zin 6 rfl (by omega) (by omega)), fun v hv => ?_⟩
    rw [nI_clamp (by omega), hf 23 (by decide), hends] at hv
    subst hv
    refine ⟨fun z => absurd z (nI_ge (by omega) (by omega)), fun _ => ?_⟩
    refine mp_looksAll_p (d := d) hok hi hn (by omega) hw C hQ hM hf h32 (fun g2 a1 a2 => ?_)
    refine mp_looksAll_l hok hi hn hn0 hw hends C hQ hK c (p + 1) g2 _ (by omega) a1 (hN.trans a2) (fun j hj => (va_up_ne _ _ hj).trans (hf j hj)) (fun q hq => ?_)
    rw [va_up_self]
    by_cases cq : q = p
    · subst cq
      rw [pk_us]
    · rw [pk_un cq]
      exact h32 q (by omega)
theorem mp_looksAll (hok : zOk X) (hM : zMd g m fi ad fa) {i n : Nat} {b : Bool} (hi : i < 6) (hn : n ≤ 24) (hn0 : 0 < n) (hw : zwf fa (192 + 24 * i) n) (hends : fa 23 i = nI n)
    (hK : ∀ (g' : zG) (fa' : Nat → Nat → Int32), zMd g' m fi ad fa' → zNm g g' → (∀ j, j ≠ 32 → fa' j = fa j) → K (some (.int (zlV fa (192 + 24 * i) b (n - 1)))) g') : zCal X (d + 2) yX3_looksAll wX3_looksAll [.ref m, .int (nI i), .int (zbI b)] g K KX := by
  refine mX3_looksAll (d := d + 1) hok m _ _ (fun E C hQ => mX3_fromOf hok _ ⟨_, rfl, ?_⟩)
  have hb : 192 + 24 * nI i = nI (192 + 24 * i) := by
    unfold nI
    rw [show (192 : Int32) = Int32.ofNat 192 from rfl, show (24 : Int32) = Int32.ofNat 24 from rfl, ← Int32.ofNat_mul, ← Int32.ofNat_add]
  rw [hb, show (0 : Int32) = nI 0 from nI_0.symm]
  exact mp_looksAll_l (d := d) hok hi hn hn0 hw hends C hQ hK n 0 g fa (Nat.zero_add _).symm hM (zNm.rf g) (fun _ _ => rfl) (fun q hq => absurd hq (Nat.not_lt_zero q))
theorem mp_back (hok : zOk X) (hM : zMd g m fi ad fa) {v : Int32} {M : Nat} {np : Nat → Nat} (hM0 : zMo fi fa M np)
    (h1 : ∀ i : Nat, i < M → v = nI i → ∀ (g' : zG) (fa' : Nat → Nat → Int32), zMd g' m (va_up fi 34 0) ad fa' → zNm g g' → (∀ j, j ≠ 32 → fa' j = fa j) → K (some (.int (zlV fa (192 + 24 * i) true (np i - 1)))) g')
    (h0 : zIn v 0 (nI M - 1) = 0 → ∀ g' : zG, zMd g' m (va_up fi 34 1) ad fa → zNm g g' → K (some (.int 0)) g') : zCal X (d + 3) yX3_back wX3_back [.ref m, .int v] g K KX := by
  obtain ⟨m1, m2, m3⟩ := hM0
  refine mX3_back (d := d + 2) hok m v ⟨hM.is, mp_isMonitor hok hM ⟨_, rfl, zIn_b _ _ _, hM.is, mp_goes2 hok hM (fun z g2 a1 a2 => ?_) (fun z g2 a1 a2 => ?_)⟩⟩
  · rw [m2] at z
    obtain ⟨i, hi, rfl⟩ := zIn_n (by omega) (zth1_0 z)
    obtain ⟨q1, q2, q3, q4⟩ := m3 i hi
    exact ⟨_, rfl, Or.inr rfl, fun w => absurd w (by decide), fun _ => ⟨a1.is, mp_looksAll (d := d) (b := true) hok a1 (by omega) q1 q2 q3 q4 (fun g3 fa3 b1 b2 b3 => ⟨_, rfl, h1 i hi rfl g3 fa3 b1 (a2.trans b2) b3⟩)⟩⟩
  · rw [m2] at z a1
    rw [(zth1_1 z).2] at a1
    exact ⟨_, rfl, Or.inl rfl, fun _ => h0 (zth1_1 z).1 g2 a1 a2, fun w => absurd rfl w⟩
theorem mp_ahead (hok : zOk X) (hM : zMd g m fi ad fa) {v : Int32} {M : Nat} {np : Nat → Nat} (hM0 : zMo fi fa M np)
    (h1 : ∀ i : Nat, i < M → v = nI i → ∀ (g' : zG) (fa' : Nat → Nat → Int32), zMd g' m (va_up fi 34 0) ad fa' → zNm g g' → (∀ j, j ≠ 32 → fa' j = fa j) → K (some (.int (zlV fa (192 + 24 * i) false (np i - 1)))) g')
    (h0 : zIn v 0 (nI M - 1) = 0 → ∀ g' : zG, zMd g' m (va_up fi 34 1) ad fa → zNm g g' → K (some (.int 0)) g') : zCal X (d + 3) yX3_ahead wX3_ahead [.ref m, .int v] g K KX := by
  obtain ⟨m1, m2, m3⟩ := hM0
  refine mX3_ahead (d := d + 2) hok m v ⟨hM.is, mp_isMonitor hok hM ⟨_, rfl, zIn_b _ _ _, hM.is, mp_goes2 hok hM (fun z g2 a1 a2 => ?_) (fun z g2 a1 a2 => ?_)⟩⟩
  · rw [m2] at z
    obtain ⟨i, hi, rfl⟩ := zIn_n (by omega) (zth1_0 z)
    obtain ⟨q1, q2, q3, q4⟩ := m3 i hi
    exact ⟨_, rfl, Or.inr rfl, fun w => absurd w (by decide), fun _ => ⟨a1.is, mp_looksAll (d := d) (b := false) hok a1 (by omega) q1 q2 q3 q4 (fun g3 fa3 b1 b2 b3 => ⟨_, rfl, h1 i hi rfl g3 fa3 b1 (a2.trans b2) b3⟩)⟩⟩
  · rw [m2] at z a1
    rw [(zth1_1 z).2] at a1
    exact ⟨_, rfl, Or.inl rfl, fun _ => h0 (zth1_1 z).1 g2 a1 a2, fun w => absurd rfl w⟩
end LKS
