set_option maxRecDepth 100000
theorem zsin_cg {nr : Nat → Bool} {F L F' L' : Nat → Int32} : ∀ (c : Nat) (s a : Int32), (∀ k, k < c → F k = F' k ∧ L k = L' k) → zsin nr F L c s a = zsin nr F' L' c s a
  | 0, s, a, h => rfl
  | c + 1, s, a, h => by
    unfold zsin
    rw [(h c (by omega)).1, (h c (by omega)).2, zsin_cg c _ _ (fun k hk => h k (by omega))]
theorem zonc_cg {nr : Nat → Bool} {L L' : Nat → Int32} : ∀ (c : Nat) (s : Int32), (∀ k, k < c → L k = L' k) → zonc nr L c s = zonc nr L' c s
  | 0, s, h => rfl
  | c + 1, s, h => by
    unfold zonc
    rw [h c (by omega), zonc_cg c _ (fun k hk => h k (by omega))]
theorem zmny_cg {nr : Nat → Bool} {L L' : Nat → Int32} : ∀ (c : Nat) (s o : Int32), (∀ k, k < c → L k = L' k) → zmny nr L c s o = zmny nr L' c s o
  | 0, s, o, h => rfl
  | c + 1, s, o, h => by
    unfold zmny
    rw [h c (by omega), zmny_cg c _ _ (fun k hk => h k (by omega))]
theorem zunt_cg {nr : Nat → Bool} {F L F' L' : Nat → Int32} (n : Nat) : ∀ (c k : Nat) (s a : Int32), k + c ≤ n → (∀ k, k < n → F k = F' k ∧ L k = L' k) → zunt nr F L c k s a = zunt nr F' L' c k s a
  | 0, k, s, a, hc, h => rfl
  | c + 1, k, s, a, hc, h => by
    unfold zunt
    rw [(h k (by omega)).1, (h k (by omega)).2, zunt_cg n c (k + 1) _ _ (by omega) h]
theorem zsoo_cg {nr : Nat → Bool} {L L' : Nat → Int32} (n : Nat) : ∀ (c k : Nat) (s : Int32), k + c ≤ n → (∀ k, k < n → L k = L' k) → zsoo nr L c k s = zsoo nr L' c k s
  | 0, k, s, hc, h => rfl
  | c + 1, k, s, hc, h => by
    unfold zsoo
    rw [h k (by omega), zsoo_cg n c (k + 1) _ (by omega) h]
/-- what is told rests on the parts ahead -/
theorem zst_cg {fi : Nat → Int32} {fa : Nat → Nat → Int32} {base n : Nat} {R : List Nat} (hw : zwf fa base n) {tab tab' : Nat → Nat → Int32} {p e : Nat} (hp : p < n) (he : e < R.length) (h : ∀ q, q < p → ∀ k, k < R.length → tab q k = tab' q k) : zst fi fa base R tab p e = zst fi fa base R tab' p e := by
  obtain ⟨w, hw1, hw2, hw3, hw4, hw5, hw6, hw7⟩ := hw p hp
  have hL : zay w ≠ 0 → ∀ k, k < R.length → tab (p - 1) k = tab' (p - 1) k := by
    intro hz
    refine h (p - 1) ?_
    have : zay w = 0 ∨ zay w = 1 ∨ zay w = 2 := by
      unfold zay
      split
      · exact Or.inl rfl
      · split
        · exact Or.inr (Or.inr rfl)
        · exact Or.inr (Or.inl rfl)
    rcases this with z | z | z
    · exact absurd z hz
    · have := (hw6 z).1
      omega
    · have := (hw7 z).1
      omega
  have hF : zay w = 2 → ∀ k, k < R.length → tab (zf1 fa base p) k = tab' (zf1 fa base p) k := by
    intro hz
    refine h _ ?_
    have := (hw7 hz).1
    unfold zf1
    omega
  unfold zst
  simp only []
  rw [hw2]
  have e9 : ∀ j : Nat, j < 12 → nI w = nI j → w = j := fun j hj h => (nI_eq (by omega) (by omega)).mp h
  by_cases c0 : nI w = 0
  · have j := e9 0 (by omega) c0
    rw [if_pos c0, if_pos c0]
  rw [if_neg c0, if_neg c0]
  by_cases c1 : nI w = 1
  · have j := e9 1 (by omega) c1
    rw [if_pos c1, if_pos c1]
  rw [if_neg c1, if_neg c1]
  by_cases c2 : nI w = 2
  · have j := e9 2 (by omega) c2
    rw [if_pos c2, if_pos c2]
    rw [hL (by rw [j]; decide) e he]
  rw [if_neg c2, if_neg c2]
  by_cases c3 : nI w = 3
  · have j := e9 3 (by omega) c3
    rw [if_pos c3, if_pos c3]
    rw [hL (by rw [j]; decide) e he, hF (by rw [j]; decide) e he]
  rw [if_neg c3, if_neg c3]
  by_cases c4 : nI w = 4
  · have j := e9 4 (by omega) c4
    rw [if_pos c4, if_pos c4]
    rw [hL (by rw [j]; decide) e he, hF (by rw [j]; decide) e he]
  rw [if_neg c4, if_neg c4]
  by_cases c5 : nI w = 5
  · have j := e9 5 (by omega) c5
    rw [if_pos c5, if_pos c5]
    rw [hL (by rw [j]; decide) (e - 1) (by omega)]
  rw [if_neg c5, if_neg c5]
  by_cases c6 : nI w = 6
  · have j := e9 6 (by omega) c6
    rw [if_pos c6, if_pos c6]
    exact zsin_cg _ _ _ (fun k hk => ⟨hF (by rw [j]; decide) k (by omega), hL (by rw [j]; decide) k (by omega)⟩)
  rw [if_neg c6, if_neg c6]
  by_cases c7 : nI w = 7
  · have j := e9 7 (by omega) c7
    rw [if_pos c7, if_pos c7]
    exact zonc_cg _ _ (fun k hk => hL (by rw [j]; decide) k (by omega))
  rw [if_neg c7, if_neg c7]
  by_cases c8 : nI w = 8
  · have j := e9 8 (by omega) c8
    rw [if_pos c8, if_pos c8]
    by_cases c : e + 1 < R.length
    · rw [if_pos c, if_pos c, hL (by rw [j]; decide) (e + 1) c]
    · rw [if_neg c, if_neg c]
  rw [if_neg c8, if_neg c8]
  by_cases c9 : nI w = 9
  · have j := e9 9 (by omega) c9
    rw [if_pos c9, if_pos c9]
    rw [zunt_cg R.length (R.length - e) e 0 1 (by omega) (fun k hk => ⟨hF (by rw [j]; decide) k hk, hL (by rw [j]; decide) k hk⟩)]
  rw [if_neg c9, if_neg c9]
  by_cases c10 : nI w = 10
  · have j := e9 10 (by omega) c10
    rw [if_pos c10, if_pos c10]
    exact zsoo_cg R.length _ _ _ (by omega) (fun k hk => hL (by rw [j]; decide) k hk)
  rw [if_neg c10, if_neg c10]
  have j : w = 11 := by
    have : w ≠ 0 := fun z => c0 (by rw [z]; rfl)
    have : w ≠ 1 := fun z => c1 (by rw [z]; rfl)
    have : w ≠ 2 := fun z => c2 (by rw [z]; rfl)
    have : w ≠ 3 := fun z => c3 (by rw [z]; rfl)
    have : w ≠ 4 := fun z => c4 (by rw [z]; rfl)
    have : w ≠ 5 := fun z => c5 (by rw [z]; rfl)
    have : w ≠ 6 := fun z => c6 (by rw [z]; rfl)
    have : w ≠ 7 := fun z => c7 (by rw [z]; rfl)
    have : w ≠ 8 := fun z => c8 (by rw [z]; rfl)
    have : w ≠ 9 := fun z => c9 (by rw [z]; rfl)
    have : w ≠ 10 := fun z => c10 (by rw [z]; rfl)
    omega
  rw [zmny_cg (e + 1) 0 0 (fun k hk => hL (by rw [j]; decide) k (by omega))]
section TAS
variable {X : zX} {d : Nat} {g : zG} {K : Option Value → zG → Prop} {KX : String → zG → Prop} {m : Nat} {fi : Nat → Int32} {ad : Nat → Nat} {fa : Nat → Nat → Int32} {R : List Nat}
/-- all is told of the parts ahead of p, and of p up to e -/
def ztd (fi : Nat → Int32) (fa : Nat → Nat → Int32) (base : Nat) (R : List Nat) (fa' : Nat → Nat → Int32) (p e : Nat) : Prop := (∀ j : Nat, j ≠ 32 → fa' j = fa j) ∧ (∀ q, q < p → ∀ k, k < R.length → ztb fa' q k = zVv fi fa base R q k) ∧ ∀ k, k < e → ztb fa' p k = zVv fi fa base R p k
theorem zst_fa {fi : Nat → Int32} {fa fa' : Nat → Nat → Int32} {base : Nat} {R : List Nat} {tab : Nat → Nat → Int32} {p e : Nat} (h : ∀ j : Nat, j ≠ 32 → fa' j = fa j) : zst fi fa' base R tab p e = zst fi fa base R tab p e := by
  unfold zst zf1
  rw [h 16 (by decide), h 17 (by decide), h 18 (by decide), h 19 (by decide), h 7 (by decide), h 8 (by decide), h 10 (by decide)]
theorem zRw.fa' {fa' : Nat → Nat → Int32} (hR : zRw fi fa R) (h : fa' 28 = fa 28) : zRw fi fa' R := by
  unfold zRw
  rw [h]
  exact hR
theorem zwf.fa' {fa' : Nat → Nat → Int32} {base n : Nat} (hw : zwf fa base n) (h : ∀ j : Nat, 16 ≤ j → j ≤ 19 → fa' j = fa j) : zwf fa' base n := by
  unfold zwf zsz
  rw [h 16 (by omega) (by omega), h 19 (by omega) (by omega)]
  exact hw
theorem mp_tellsAll_e (hok : zOk X) (hR : zRw fi fa R) {i p n : Nat} (hi : i < 6) (hn : n ≤ 24) (hp : p < n) (hw : zwf fa (192 + 24 * i) n) {E : zM} (C : zC X (d + 3) E RX3 cX3_tellsAll 4 none "tellsAll") (hQ : zQ X E K KX) : ∀ (c e : Nat) (g : zG) (fa' : Nat → Nat → Int32), R.length = e + c → zMd g m fi ad fa' → ztd fi fa (192 + 24 * i) R fa' p e →
    (∀ (g' : zG) (fa'' : Nat → Nat → Int32), zMd g' m fi ad fa'' → zNm g g' → ztd fi fa (192 + 24 * i) R fa'' (p + 1) 0 → GW X E 4 g' 2 [(0, .ref m), (1, .int (nI i)), (2, .int (nI (p + 1)))] []) → GW X E 4 g 14 [(0, .ref m), (1, .int (nI i)), (2, .int (nI p)), (3, .int (nI e))] []
  | 0, e, g, fa', hc, hM, hT, hK => by
    have h80 := hR.2.1
    refine bX3_tellsAll_14 (d := d + 2) C hQ g m _ _ _ ⟨_, _, hM.1, rfl, fun _ => ?_, fun z => absurd (show fi 27 ≤ nI e by rw [hR.1]; exact nI_le (by omega) (by omega)) z⟩
    rw [← nI_succ]
    refine hK g fa' hM (zNm.rf g) ⟨hT.1, fun q hq k hk => ?_, fun k hk => absurd hk (Nat.not_lt_zero k)⟩
    by_cases c : q = p
    · subst c
      exact hT.2.2 k (by omega)
    · exact hT.2.1 q (by omega) k hk
  | c + 1, e, g, fa', hc, hM, hT, hK => by
    have h80 := hR.2.1
    have hb : 192 + 24 * nI i = nI (192 + 24 * i) := by
      unfold nI
      rw [show (192 : Int32) = Int32.ofNat 192 from rfl, show (24 : Int32) = Int32.ofNat 24 from rfl, ← Int32.ofNat_mul, ← Int32.ofNat_add]
    refine bX3_tellsAll_14 (d := d + 2) C hQ g m _ _ _ ⟨_, _, hM.1, rfl, fun z => absurd z (by rw [hR.1]; exact nI_ge (by omega) (by omega)), fun _ => ⟨_, _, hM.1, rfl, mX3_fromOf hok _ ⟨_, rfl, hM.is, ?_⟩⟩⟩
    rw [hb]
    refine mp_tellsAt (n := n) hok hM (hR.fa' (hT.1 28 (by decide))) (by omega) hn hp (by omega) (hw.fa' (fun j h1 h2 => hT.1 j (by omega))) ⟨_, rfl, ?_⟩
    rw [z80]
    refine ⟨_, _, hM.2 32 (by decide), (zin 1920 rfl (by omega) (by omega)), fun g2 e2 => ?_⟩
    rw [nI_clamp (by omega)] at e2
    have hM2 := hM.sa (j := 32) (by decide) e2
    rw [← nI_succ]
    refine mp_tellsAll_e hok hR hi hn hp hw C hQ c (e + 1) g2 _ (by omega) hM2 ⟨fun j hj => ?_, fun q hq k hk => ?_, fun k hk => ?_⟩ (fun g' fa'' a1 a2 a3 => hK g' fa'' a1 ((zNm.sa (j := 32) (by decide) e2).trans a2) a3)
    · rw [va_up_ne _ _ hj]
      exact hT.1 j hj
    · unfold ztb
      rw [va_up_self, pk_un (by omega)]
      exact hT.2.1 q hq k hk
    · unfold ztb
      rw [va_up_self]
      by_cases ce : k = e
      · subst ce
        rw [pk_us, zst_fa hT.1, zVv_st]
        refine zst_cg hw hp (by omega) (fun q hq k hk => ?_)
        rw [zT_V _ _ _ _ _ _ _ hq]
        exact hT.2.1 q hq k hk
      · rw [pk_un (by omega)]
        exact hT.2.2 k (by omega)
theorem mp_tellsAll_p (hok : zOk X) (hR : zRw fi fa R) {i n : Nat} (hi : i < 6) (hn : n ≤ 24) (hw : zwf fa (192 + 24 * i) n) (hends : fa 23 i = nI n) {E : zM} (C : zC X (d + 3) E RX3 cX3_tellsAll 4 none "tellsAll") (hQ : zQ X E K KX) : ∀ (c p : Nat) (g : zG) (fa' : Nat → Nat → Int32), n = p + c → zMd g m fi ad fa' → ztd fi fa (192 + 24 * i) R fa' p 0 →
    (∀ (g' : zG) (fa'' : Nat → Nat → Int32), zMd g' m fi ad fa'' → zNm g g' → ztd fi fa (192 + 24 * i) R fa'' n 0 → K none g') → GW X E 4 g 2 [(0, .ref m), (1, .int (nI i)), (2, .int (nI p))] []
  | 0, p, g, fa', hc, hM, hT, hK => by
    refine bX3_tellsAll_2 (d := d + 2) C hQ g m _ _ ⟨_, _, hM.1, rfl, _, _, hM.2 23 (by decide), (zin 6 rfl (by omega) (by omega)), fun v hv => ?_⟩
    rw [nI_clamp (by omega), hT.1 23 (by decide), hends] at hv
    subst hv
    refine ⟨fun _ => hK g fa' hM (zNm.rf g) (by rw [show n = p by omega]; exact hT), fun z => absurd (nI_le (by omega) (by omega)) z⟩
  | c + 1, p, g, fa', hc, hM, hT, hK => by
    refine bX3_tellsAll_2 (d := d + 2) C hQ g m _ _ ⟨_, _, hM.1, rfl, _, _, hM.2 23 (by decide), (zin 6 rfl (by omega) (by omega)), fun v hv => ?_⟩
    rw [nI_clamp (by omega), hT.1 23 (by decide), hends] at hv
    subst hv
    refine ⟨fun z => absurd z (nI_ge (by omega) (by omega)), fun _ => ?_⟩
    rw [show (0 : Int32) = nI 0 from nI_0.symm]
    exact mp_tellsAll_e hok hR hi hn (by omega) hw C hQ R.length 0 g fa' (by omega) hM hT (fun g' fa'' a1 a2 a3 => mp_tellsAll_p hok hR hi hn hw hends C hQ c (p + 1) g' fa'' (by omega) a1 a3 (fun g'' fa3 b1 b2 b3 => hK g'' fa3 b1 (a2.trans b2) b3))
theorem mp_tellsAll (hok : zOk X) (hM : zMd g m fi ad fa) (hR : zRw fi fa R) {i n : Nat} (hi : i < 6) (hn : n ≤ 24) (hw : zwf fa (192 + 24 * i) n) (hends : fa 23 i = nI n)
    (hK : ∀ (g' : zG) (fa' : Nat → Nat → Int32), zMd g' m fi ad fa' → zNm g g' → (∀ j : Nat, j ≠ 32 → fa' j = fa j) → (∀ q, q < n → ∀ k, k < R.length → ztb fa' q k = zVv fi fa (192 + 24 * i) R q k) → K none g') : zCal X (d + 3) yX3_tellsAll wX3_tellsAll [.ref m, .int (nI i)] g K KX := by
  refine mX3_tellsAll (d := d + 2) hok m _ (fun E C hQ => ?_)
  rw [show (0 : Int32) = nI 0 from nI_0.symm]
  exact mp_tellsAll_p hok hR hi hn hw hends C hQ n 0 g fa (by omega) hM ⟨fun _ _ => rfl, fun q hq => absurd hq (Nat.not_lt_zero q), fun k hk => absurd hk (Nat.not_lt_zero k)⟩ (fun g' fa' a1 a2 a3 => hK g' fa' a1 a2 a3.1 a3.2.1)
end TAS
