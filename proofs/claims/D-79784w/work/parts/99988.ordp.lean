set_option maxRecDepth 100000
/-! ORDERS: the class looks for what may stand next, the model numbers the orders -/
/-- events of the same time stand by rising nodes -/
def zno (fa : Nat → Nat → Int32) (lg : List Nat) : Prop := ∀ j k : Nat, j ≤ k → k < lg.length → fa 7 (zr lg j) = fa 7 (zr lg k) → fa 6 (zr lg j) ≤ fa 6 (zr lg k)
def zny (fa : Nat → Nat → Int32) (T : Int32) (pre : List Nat) (q v : Nat) : Bool := fa 7 v == T && (fa 6 v == nI q && !pre.contains v)
/-- what may stand behind a row that was begun, of a node -/
def znx (fa : Nat → Nat → Int32) (lg pre : List Nat) (q v : Nat) : Bool := zny fa (fa 7 (zr lg pre.length)) pre q v
def zgq (fa : Nat → Nat → Int32) (lg : List Nat) (F : List Nat → List (List Nat)) (pre : List Nat) (q : Nat) : List (List Nat) := match lg.find? (znx fa lg pre q) with
  | some v => F (pre ++ [v])
  | none => []
/-- all orders that go on with a row, of n events more -/
def zgg (fa : Nat → Nat → Int32) (lg : List Nat) : Nat → List Nat → List (List Nat)
  | 0, pre => [pre]
  | n + 1, pre => zgq fa lg (zgg fa lg n) pre 0 ++ (zgq fa lg (zgg fa lg n) pre 1 ++ (zgq fa lg (zgg fa lg n) pre 2 ++ zgq fa lg (zgg fa lg n) pre 3))
def zsf (f : List Nat → Nat) (L : List (List Nat)) : Nat := (L.map f).sum
def zsr (f : Nat → Nat) : Nat → Nat
  | 0 => 0
  | n + 1 => zsr f n + f n
theorem zsf_app (f : List Nat → Nat) (L M : List (List Nat)) : zsf f (L ++ M) = zsf f L + zsf f M := by
  unfold zsf
  rw [List.map_append, List.sum_append]
theorem zsr_add (f : Nat → Nat) (a : Nat) : ∀ b : Nat, zsr f (a + b) = zsr f a + zsr (fun i => f (a + i)) b
  | 0 => rfl
  | b + 1 => by
    show zsr f (a + b) + f (a + b) = zsr f a + (zsr (fun i => f (a + i)) b + f (a + b))
    rw [zsr_add f a b]
    omega
theorem zsr_cg {f g : Nat → Nat} : ∀ n : Nat, (∀ i, i < n → f i = g i) → zsr f n = zsr g n
  | 0, _ => rfl
  | n + 1, h => by
    show zsr f n + f n = zsr g n + g n
    rw [zsr_cg n (fun i hi => h i (by omega)), h n (by omega)]
theorem zsr_pl (f g : Nat → Nat) : ∀ n : Nat, zsr (fun i => f i + g i) n = zsr f n + zsr g n
  | 0 => rfl
  | n + 1 => by
    show zsr (fun i => f i + g i) n + (f n + g n) = (zsr f n + f n) + (zsr g n + g n)
    rw [zsr_pl f g n]
    omega
theorem zsr_c (c : Nat) : ∀ n : Nat, zsr (fun _ => c) n = n * c
  | 0 => (Nat.zero_mul c).symm
  | n + 1 => by
    show zsr (fun _ => c) n + c = _
    rw [zsr_c c n, Nat.succ_mul]
theorem zsr_mul (F : Nat → Nat → Nat) {n : Nat} (hn : 0 < n) : ∀ N : Nat, zsr (fun k => F (k % n) (k / n)) (n * N) = zsr (fun i => zsr (F i) N) n
  | 0 => by
    rw [Nat.mul_zero]
    show 0 = zsr (fun _ => 0) n
    rw [zsr_c, Nat.mul_zero]
  | N + 1 => by
    rw [Nat.mul_succ, zsr_add, zsr_mul F hn N]
    show _ = zsr (fun i => zsr (F i) N + F i N) n
    rw [zsr_pl]
    congr 1
    refine zsr_cg n (fun i hi => ?_)
    show F ((n * N + i) % n) ((n * N + i) / n) = F i N
    rw [Nat.mul_add_mod, Nat.mod_eq_of_lt hi, Nat.mul_add_div hn, Nat.div_eq_of_lt hi, Nat.add_zero]
section ORP
variable {fa : Nat → Nat → Int32} {lg : List Nat}
theorem zgq_nil {F : List Nat → List (List Nat)} {pre : List Nat} {q : Nat} (h : lg.filter (znx fa lg pre q) = []) : zgq fa lg F pre q = [] := by
  unfold zgq
  rw [← List.head?_filter, h]
  rfl
theorem zgq_cons {F : List Nat → List (List Nat)} {pre : List Nat} {q v : Nat} {t : List Nat} (h : lg.filter (znx fa lg pre q) = v :: t) : zgq fa lg F pre q = F (pre ++ [v]) := by
  unfold zgq
  rw [← List.head?_filter, h]
  rfl
theorem zny_st {T : Int32} {pre : List Nat} {q v : Nat} : lg.filter (zny fa T (pre ++ [v]) q) = (lg.filter (zny fa T pre q)).filter (fun u => !(u == v)) := by
  rw [List.filter_filter]
  refine List.filter_congr (fun u _ => ?_)
  unfold zny
  by_cases c : u = v
  · subst c
    simp
  · have : ¬ v = u := fun z => c z.symm
    simp [c]
theorem zny_same (hn : lg.Nodup) {T : Int32} {pre : List Nat} {q v : Nat} {t : List Nat} (h : lg.filter (zny fa T pre q) = v :: t) : lg.filter (zny fa T (pre ++ [v]) q) = t := by
  have hnd : (v :: t).Nodup := by
    rw [← h]
    exact hn.sublist List.filter_sublist
  rw [zny_st, h, List.filter_cons_of_neg (by simp)]
  exact List.filter_eq_self.mpr (fun u hu => by
    have : ¬ u = v := fun z => (List.nodup_cons.mp hnd).1 (z ▸ hu)
    simpa using this)
theorem zny_oth {T : Int32} {pre : List Nat} {q q' v : Nat} {t L : List Nat} (h : lg.filter (zny fa T pre q) = v :: t) (h' : lg.filter (zny fa T pre q') = L) (hq : q < 4) (hq' : q' < 4) (hne : q ≠ q') : lg.filter (zny fa T (pre ++ [v]) q') = L := by
  rw [zny_st, h']
  have hv : v ∈ lg.filter (zny fa T pre q) := by
    rw [h]
    exact List.mem_cons_self
  have hv2 := (List.mem_filter.mp hv).2
  refine List.filter_eq_self.mpr (fun u hu => ?_)
  rw [← h'] at hu
  have hu2 := (List.mem_filter.mp hu).2
  unfold zny at hv2 hu2
  simp only [Bool.and_eq_true, beq_iff_eq] at hv2 hu2
  have : ¬ u = v := fun z => by
    subst z
    exact hne ((nI_eq (by omega) (by omega)).mp (hv2.2.1.symm.trans hu2.2.1))
  simpa using this
theorem zsf_nil (f : List Nat → Nat) : zsf f [] = 0 := rfl
/-- a block of events of one time -/
theorem zgo_blk (hn : lg.Nodup) (f : List Nat → Nat) {T : Int32} {r : Nat} : ∀ (m : Nat) (A B C D pre : List Nat), A.length + B.length + C.length + D.length = m → (∀ j, pre.length ≤ j → j < pre.length + m → fa 7 (zr lg j) = T) → lg.filter (zny fa T pre 0) = A → lg.filter (zny fa T pre 1) = B → lg.filter (zny fa T pre 2) = C → lg.filter (zny fa T pre 3) = D →
    zsf f (zgg fa lg (m + r) pre) = zsr (fun i => zsf f (zgg fa lg r (pre ++ zpk m A B C D i))) (zM4 A.length B.length C.length D.length)
  | 0, A, B, C, D, pre, hl, hT, hA, hB, hC, hD => by
    have eA : A = [] := List.length_eq_zero_iff.mp (by omega)
    have eB : B = [] := List.length_eq_zero_iff.mp (by omega)
    have eC : C = [] := List.length_eq_zero_iff.mp (by omega)
    have eD : D = [] := List.length_eq_zero_iff.mp (by omega)
    subst eA eB eC eD
    rw [Nat.zero_add]
    show _ = 0 + zsf f (zgg fa lg r (pre ++ []))
    rw [List.append_nil, Nat.zero_add]
  | m + 1, A, B, C, D, pre, hl, hT, hA, hB, hC, hD => by
    have h0 := hT pre.length (Nat.le_refl _) (by omega)
    have hT' : ∀ v : Nat, ∀ j, (pre ++ [v]).length ≤ j → j < (pre ++ [v]).length + m → fa 7 (zr lg j) = T := fun v j h1 h2 => by
      rw [List.length_append, List.length_singleton] at h1 h2
      exact hT j (by omega) (by omega)
    have hx : ∀ q, znx fa lg pre q = zny fa T pre q := fun q => by
      unfold znx
      rw [h0]
    have p0 : zsf f (zgq fa lg (zgg fa lg (m + r)) pre 0) = zsr (fun i => zsf f (zgg fa lg r (pre ++ zpk (m + 1) A B C D i))) (zl1 (fun k => zM4 k B.length C.length D.length) A.length) := by
      cases A with
      | nil =>
        rw [zgq_nil (by rw [hx]; exact hA)]
        rfl
      | cons v t =>
        rw [zgq_cons (by rw [hx]; exact hA)]
        show zsf f (zgg fa lg (m + r) (pre ++ [v])) = zsr _ (zM4 t.length B.length C.length D.length)
        rw [List.length_cons] at hl
        rw [zgo_blk hn f m t B C D (pre ++ [v]) (by omega) (hT' v) (zny_same hn hA) (zny_oth hA hB (by omega) (by omega) (by omega)) (zny_oth hA hC (by omega) (by omega) (by omega)) (zny_oth hA hD (by omega) (by omega) (by omega))]
        refine zsr_cg _ (fun i hi => ?_)
        have e : zpk (m + 1) (v :: t) B C D i = v :: zpk m t B C D i := by
          rw [zpk_s]
          rw [if_pos (show i < zl1 (fun k => zM4 k B.length C.length D.length) (v :: t).length from hi)]
          rfl
        rw [e, List.append_assoc]
        rfl
    have p1 : zsf f (zgq fa lg (zgg fa lg (m + r)) pre 1) = zsr (fun i => zsf f (zgg fa lg r (pre ++ zpk (m + 1) A B C D (zl1 (fun k => zM4 k B.length C.length D.length) A.length + i)))) (zl1 (fun k => zM4 A.length k C.length D.length) B.length) := by
      cases B with
      | nil =>
        rw [zgq_nil (by rw [hx]; exact hB)]
        rfl
      | cons v t =>
        rw [zgq_cons (by rw [hx]; exact hB)]
        show zsf f (zgg fa lg (m + r) (pre ++ [v])) = zsr _ (zM4 A.length t.length C.length D.length)
        rw [List.length_cons] at hl
        rw [zgo_blk hn f m A t C D (pre ++ [v]) (by omega) (hT' v) (zny_oth hB hA (by omega) (by omega) (by omega)) (zny_same hn hB) (zny_oth hB hC (by omega) (by omega) (by omega)) (zny_oth hB hD (by omega) (by omega) (by omega))]
        refine zsr_cg _ (fun i hi => ?_)
        have e : zpk (m + 1) A (v :: t) C D (zl1 (fun k => zM4 k (v :: t).length C.length D.length) A.length + i) = v :: zpk m A t C D i := by
          rw [zpk_s]
          rw [if_neg (show ¬ zl1 (fun k => zM4 k (v :: t).length C.length D.length) A.length + i < zl1 (fun k => zM4 k (v :: t).length C.length D.length) A.length by omega)]
          rw [if_pos (show zl1 (fun k => zM4 k (v :: t).length C.length D.length) A.length + i < zl1 (fun k => zM4 k (v :: t).length C.length D.length) A.length + zl1 (fun k => zM4 A.length k C.length D.length) (v :: t).length from Nat.add_lt_add_left hi _)]
          rw [Nat.add_sub_cancel_left]
          rfl
        rw [e, List.append_assoc]
        rfl
    have p2 : zsf f (zgq fa lg (zgg fa lg (m + r)) pre 2) = zsr (fun i => zsf f (zgg fa lg r (pre ++ zpk (m + 1) A B C D (zl1 (fun k => zM4 k B.length C.length D.length) A.length + zl1 (fun k => zM4 A.length k C.length D.length) B.length + i)))) (zl1 (fun k => zM4 A.length B.length k D.length) C.length) := by
      cases C with
      | nil =>
        rw [zgq_nil (by rw [hx]; exact hC)]
        rfl
      | cons v t =>
        rw [zgq_cons (by rw [hx]; exact hC)]
        show zsf f (zgg fa lg (m + r) (pre ++ [v])) = zsr _ (zM4 A.length B.length t.length D.length)
        rw [List.length_cons] at hl
        rw [zgo_blk hn f m A B t D (pre ++ [v]) (by omega) (hT' v) (zny_oth hC hA (by omega) (by omega) (by omega)) (zny_oth hC hB (by omega) (by omega) (by omega)) (zny_same hn hC) (zny_oth hC hD (by omega) (by omega) (by omega))]
        refine zsr_cg _ (fun i hi => ?_)
        have e : zpk (m + 1) A B (v :: t) D (zl1 (fun k => zM4 k B.length (v :: t).length D.length) A.length + zl1 (fun k => zM4 A.length k (v :: t).length D.length) B.length + i) = v :: zpk m A B t D i := by
          rw [zpk_s]
          rw [if_neg (show ¬ zl1 (fun k => zM4 k B.length (v :: t).length D.length) A.length + zl1 (fun k => zM4 A.length k (v :: t).length D.length) B.length + i < zl1 (fun k => zM4 k B.length (v :: t).length D.length) A.length by omega)]
          rw [if_neg (show ¬ zl1 (fun k => zM4 k B.length (v :: t).length D.length) A.length + zl1 (fun k => zM4 A.length k (v :: t).length D.length) B.length + i < zl1 (fun k => zM4 k B.length (v :: t).length D.length) A.length + zl1 (fun k => zM4 A.length k (v :: t).length D.length) B.length by omega)]
          rw [if_pos (show zl1 (fun k => zM4 k B.length (v :: t).length D.length) A.length + zl1 (fun k => zM4 A.length k (v :: t).length D.length) B.length + i < zl1 (fun k => zM4 k B.length (v :: t).length D.length) A.length + zl1 (fun k => zM4 A.length k (v :: t).length D.length) B.length + zl1 (fun k => zM4 A.length B.length k D.length) (v :: t).length from Nat.add_lt_add_left hi _)]
          rw [Nat.add_sub_cancel_left]
          rfl
        rw [e, List.append_assoc]
        rfl
    have p3 : zsf f (zgq fa lg (zgg fa lg (m + r)) pre 3) = zsr (fun i => zsf f (zgg fa lg r (pre ++ zpk (m + 1) A B C D (zl1 (fun k => zM4 k B.length C.length D.length) A.length + zl1 (fun k => zM4 A.length k C.length D.length) B.length + zl1 (fun k => zM4 A.length B.length k D.length) C.length + i)))) (zl1 (fun k => zM4 A.length B.length C.length k) D.length) := by
      cases D with
      | nil =>
        rw [zgq_nil (by rw [hx]; exact hD)]
        rfl
      | cons v t =>
        rw [zgq_cons (by rw [hx]; exact hD)]
        show zsf f (zgg fa lg (m + r) (pre ++ [v])) = zsr _ (zM4 A.length B.length C.length t.length)
        rw [List.length_cons] at hl
        rw [zgo_blk hn f m A B C t (pre ++ [v]) (by omega) (hT' v) (zny_oth hD hA (by omega) (by omega) (by omega)) (zny_oth hD hB (by omega) (by omega) (by omega)) (zny_oth hD hC (by omega) (by omega) (by omega)) (zny_same hn hD)]
        refine zsr_cg _ (fun i hi => ?_)
        have e : zpk (m + 1) A B C (v :: t) (zl1 (fun k => zM4 k B.length C.length (v :: t).length) A.length + zl1 (fun k => zM4 A.length k C.length (v :: t).length) B.length + zl1 (fun k => zM4 A.length B.length k (v :: t).length) C.length + i) = v :: zpk m A B C t i := by
          rw [zpk_s]
          rw [if_neg (show ¬ zl1 (fun k => zM4 k B.length C.length (v :: t).length) A.length + zl1 (fun k => zM4 A.length k C.length (v :: t).length) B.length + zl1 (fun k => zM4 A.length B.length k (v :: t).length) C.length + i < zl1 (fun k => zM4 k B.length C.length (v :: t).length) A.length by omega)]
          rw [if_neg (show ¬ zl1 (fun k => zM4 k B.length C.length (v :: t).length) A.length + zl1 (fun k => zM4 A.length k C.length (v :: t).length) B.length + zl1 (fun k => zM4 A.length B.length k (v :: t).length) C.length + i < zl1 (fun k => zM4 k B.length C.length (v :: t).length) A.length + zl1 (fun k => zM4 A.length k C.length (v :: t).length) B.length by omega)]
          rw [if_neg (show ¬ zl1 (fun k => zM4 k B.length C.length (v :: t).length) A.length + zl1 (fun k => zM4 A.length k C.length (v :: t).length) B.length + zl1 (fun k => zM4 A.length B.length k (v :: t).length) C.length + i < zl1 (fun k => zM4 k B.length C.length (v :: t).length) A.length + zl1 (fun k => zM4 A.length k C.length (v :: t).length) B.length + zl1 (fun k => zM4 A.length B.length k (v :: t).length) C.length by omega)]
          rw [Nat.add_sub_cancel_left]
          rfl
        rw [e, List.append_assoc]
        rfl
    rw [show m + 1 + r = (m + r) + 1 by omega]
    show zsf f (zgq fa lg (zgg fa lg (m + r)) pre 0 ++ (zgq fa lg (zgg fa lg (m + r)) pre 1 ++ (zgq fa lg (zgg fa lg (m + r)) pre 2 ++ zgq fa lg (zgg fa lg (m + r)) pre 3))) = _
    rw [zsf_app, zsf_app, zsf_app, p0, p1, p2, p3, zM4_p _ _ _ _ (by omega), zsr_add, zsr_add, zsr_add]
    omega
end ORP
