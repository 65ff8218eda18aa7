/-! THE GHOST HEAP: what a proof says of the heap, by kinds and addresses; GW: W at a ghost heap; zCal: a call of a method at a ghost heap, with its ends -/
set_option maxRecDepth 100000
/-- objects by kind and address (their fields), int and boolean arrays by tag and address, arrays of references, arrays of longs, and how much has been made at most -/
abbrev zG : Type := (Nat → Nat → Option (List Value)) × (Nat → Nat → Option (Nat × (Nat → Int32))) × (Nat → Nat → Option (Nat × (Nat → Option Nat))) × (Nat → Nat → Option (Nat × (Nat → Int64))) × Nat
def zGo (g : zG) : Nat → Nat → Option (List Value) := g.1
def zGi (g : zG) : Nat → Nat → Option (Nat × (Nat → Int32)) := g.2.1
def zGq (g : zG) : Nat → Nat → Option (Nat × (Nat → Option Nat)) := g.2.2.1
def zGj (g : zG) : Nat → Nat → Option (Nat × (Nat → Int64)) := g.2.2.2.1
def zGz (g : zG) : Nat := g.2.2.2.2
def zup {α : Type} (f : Nat → Nat → Option α) (k a : Nat) (v : α) : Nat → Nat → Option α := fun k' a' => if k' = k ∧ a' = a then some v else f k' a'
def zSo (g : zG) (k a : Nat) (fs : List Value) : zG := (zup g.1 k a fs, g.2)
def zSi (g : zG) (t a n : Nat) (f : Nat → Int32) : zG := (g.1, zup g.2.1 t a (n, f), g.2.2)
def zSq (g : zG) (t a n : Nat) (f : Nat → Option Nat) : zG := (g.1, g.2.1, zup g.2.2.1 t a (n, f), g.2.2.2)
def zSj (g : zG) (t a n : Nat) (f : Nat → Int64) : zG := (g.1, g.2.1, g.2.2.1, zup g.2.2.2.1 t a (n, f), g.2.2.2.2)
def zSz (g : zG) (z : Nat) : zG := (g.1, g.2.1, g.2.2.1, g.2.2.2.1, z)
theorem zup_s {α : Type} (f : Nat → Nat → Option α) (k a : Nat) (v : α) : zup f k a v k a = some v := by simp [zup]
theorem zup_k {α : Type} (f : Nat → Nat → Option α) {k k' : Nat} (a a' : Nat) (v : α) (h : k' ≠ k) : zup f k a v k' a' = f k' a' := by simp [zup, h]
theorem zup_a {α : Type} (f : Nat → Nat → Option α) (k k' : Nat) {a a' : Nat} (v : α) (h : a' ≠ a) : zup f k a v k' a' = f k' a' := by simp [zup, h]
theorem zup_uu {α : Type} (f : Nat → Nat → Option α) (k a : Nat) (v w : α) : zup (zup f k a v) k a w = zup f k a w := by
  funext k' a'; by_cases h : k' = k ∧ a' = a <;> simp [zup, h]
/-- the class of a kind: 0 ArrayList, 1..10 the system's, 11 Itr; kinds 16..63 are Formulas, from 64 on ArrayLists -/
def zkc (k : Nat) : Nat := if k < 16 then k else if k < 64 then 7 else 0
abbrev zcl : List vw_C := [(RJ2, TJ2, 3), (RX1, TX1, 12), (RX2, TX2, 5), (RX3, TX3, 35), (RX4, TX4, 7), (RX5, TX5, 2), (RX6, TX6, 2), (RX7, TX7, 7), (RX8, TX8, 8), (RX9, TX9, 4), (RX10, TX10, 7), (RJ22, TJ22, 4), (RJ9, TJ9, 0), (RJ12, TJ12, 0), (RJ13, TJ13, 0)]
/-- the run's fixed things: launch, arguments and state of its start, the tables, the array classes (0 int, 1 boolean, 2 long, 3 Object, 4 int[]), the greatest room, the enum's constants, the small Integers, the two empty arrays, the class objects of ArrayList and Object[] -/
abbrev zX : Type := Launch × Array Value × State × va_G × (Nat → ClassId) × Nat × (Nat → Nat) × (Nat → Nat) × Nat × Nat × Nat × Nat
abbrev zl (X : zX) : Launch := X.1
abbrev zar (X : zX) : Array Value := X.2.1
abbrev zs (X : zX) : State := X.2.2.1
abbrev zD (X : zX) : va_G := X.2.2.2.1
abbrev zcA (X : zX) : Nat → ClassId := X.2.2.2.2.1
abbrev zz (X : zX) : Nat := X.2.2.2.2.2.1
abbrev zE (X : zX) : Nat → Nat := X.2.2.2.2.2.2.1
abbrev zN (X : zX) : Nat → Nat := X.2.2.2.2.2.2.2.1
abbrev ze1 (X : zX) : Nat := X.2.2.2.2.2.2.2.2.1
abbrev ze2 (X : zX) : Nat := X.2.2.2.2.2.2.2.2.2.1
abbrev zm1 (X : zX) : Nat := X.2.2.2.2.2.2.2.2.2.2.1
abbrev zm2 (X : zX) : Nat := X.2.2.2.2.2.2.2.2.2.2.2
/-- what may be written: all that the run has made -/
def zA (X : zX) : Nat → Prop := fun q => (zs X).heap.size ≤ q
abbrev zty (X : zX) : List (ClassId × FieldType) := [(zcA X 0, .int), (zcA X 1, .boolean), (zcA X 2, .long), (zcA X 3, .object "java/lang/Object"), (zcA X 4, .array .int)]
/-- the slots of all cells -/
def zsl (H : Heap) : Nat := (H.toList.map (fun c => c.slots.size)).sum
def ztI (t : Nat) : Nat := if t < 100 then 0 else 1
def ztQ (t : Nat) : Nat := if t < 64 then 4 else 3
/-- the heap is as the ghost heap says -/
def zRep (X : zX) (g : zG) (H : Heap) : Prop := ((zs X).heap.size ≤ H.size ∧ ∀ q : Nat, q < (zs X).heap.size → H[q]? = (zs X).heap[q]?) ∧ (H.size + zsl H ≤ zGz g ∧ zGz g ≤ zz X) ∧
  ∃ (ws : va_W) (ty : Nat → Nat × Nat), va_P (zD X) zcl ws H ∧ va_D (zA X) ws ∧
    (∀ k a fs, zGo g k a = some fs → ty a = (0, k) ∧ ∃ i : Nat, ws[i]? = some (a, .inr (zkc k, fs))) ∧
    (∀ t a n f, zGi g t a = some (n, f) → ty a = (1, t) ∧ ∃ i : Nat, ws[i]? = some (a, .inl (zcA X (ztI t), n, .inl f))) ∧
    (∀ t a n f, zGq g t a = some (n, f) → ty a = (2, t) ∧ ∃ i : Nat, ws[i]? = some (a, .inl (zcA X (ztQ t), n, .inr (.inr (.inr (.inr f)))))) ∧
    (∀ t a n f, zGj g t a = some (n, f) → ty a = (3, t) ∧ ∃ i : Nat, ws[i]? = some (a, .inl (zcA X 2, n, .inr (.inl f))))
/-- a method's frame and what is below it -/
abbrev zM : Type := Program × Jvm.Env × Room × State × MethodId × Array Value × List Frame × Method × Code × (State → Prop)
abbrev zp (E : zM) : Program := E.1
abbrev ze (E : zM) : Jvm.Env := E.2.1
abbrev zR (E : zM) : Room := E.2.2.1
abbrev zS (E : zM) : State := E.2.2.2.1
abbrev zm (E : zM) : MethodId := E.2.2.2.2.1
abbrev za (E : zM) : Array Value := E.2.2.2.2.2.1
abbrev zb (E : zM) : List Frame := E.2.2.2.2.2.2.1
abbrev zh (E : zM) : Method := E.2.2.2.2.2.2.2.1
abbrev zc (E : zM) : Code := E.2.2.2.2.2.2.2.2.1
abbrev zq (E : zM) : State → Prop := E.2.2.2.2.2.2.2.2.2
/-- W, with the frame's own things in one -/
abbrev zW (X : zX) (E : zM) (H : Heap) (locs : List Loc) (cells slots : Nat) (f : JFrame) : Prop := W (zp E) (zl X) (ze E) (zR E) (zS E) (zm E) (za E) (zb E) (zh E) (zc E) H locs cells slots (zq E) f
/-- W at a ghost heap: from every heap that is as it says -/
def GW (X : zX) (E : zM) (nL : Nat) (g : zG) (pc : Nat) (lc : List (Nat × Value)) (st : List Value) : Prop :=
  ∀ (H : Heap) (locs : List Loc) (ls : Array Slot), zRep X g H → va_S (zA X) (zS E).heap H locs → lv_has ls nL lc →
    zW X E H locs (H.size - (zS E).heap.size) (zsl H - zsl (zS E).heap) (F0 (zm E) pc ls st)
/-- an exception of class x, thrown at pc, at a ghost heap -/
def GX (X : zX) (E : zM) (nL : Nat) (g : zG) (pc : Nat) (lc : List (Nat × Value)) (x : String) : Prop :=
  ∀ (H : Heap) (locs : List Loc) (ls : Array Slot) (rest : List Value) (q : Nat) (ce : Cell), zRep X g H → va_S (zA X) (zS E).heap H locs → lv_has ls nL lc →
    H[q]? = some ce → ce.vm = .none → (zS E).vm.findClass x = some ce.cls →
    vx_W (zp E) (zl X) (ze E) (zR E) (zS E) (zm E) (za E) (zb E) (zh E) (zc E) H locs (H.size - (zS E).heap.size) (zsl H - zsl (zS E).heap) (zq E) (F0 (zm E) pc ls rest) q
/-- how much has been made -/
def zms (s : State) : Nat := s.heap.size + zsl s.heap
/-- A CALL: method y, called with as at the ghost heap g, comes to an end at which K holds of its answer and the ghost heap, or throws an exception at which KX holds -/
def zCal (X : zX) (d : Nat) (y : MethodName) (ws : List Cond) (as : List Value) (g : zG) (K : Option Value → zG → Prop) (KX : String → zG → Prop) : Prop :=
  ∀ N : Nat, N ≤ zz X → vx_Met (zl X) y ws { frames := d, cells := zz X - N, slots := zz X - N, locals := 64 * d } (va_Pc as (fun U => zms U = N ∧ (zs X).WarmedH U.vm ∧ zRep X g U.heap))
    (fun _ st o t => (∃ (r : Option Value) (g' : zG), o = .returned r ∧ zRep X g' t.heap ∧ K r g') ∧ st.heap.size ≤ t.heap.size)
    (fun x st t => (∃ g' : zG, zRep X g' t.heap ∧ KX x g') ∧ st.heap.size ≤ t.heap.size) (zz X - N) (zz X - N) (zA X)
/-- the statics and constants that the run reads -/
def znm : List String := ["KIND", "VALUE", "NOT", "BOTH", "EITHER", "BEFORE", "SINCE", "ONCE", "NEXT", "UNTIL", "SOON", "MANY"]
def zor : String × String × String × List Int32 := ("java/lang/Enum", "ordinal", "I", [0, 1, 2, 3, 4, 5, 6, 7, 8, 9, 10, 11])
def zSt (X : zX) (s : State) : Prop := va_En "LogGrammar$Sort" "LLogGrammar$Sort;" znm [zor] (zE X) (zA X) s s.heap ∧
  vb_C (zN X) (zA X) s s.heap ∧ (∃ t : Nat, va_Z "java/lang/Integer$IntegerCache" "cache" "[Ljava/lang/Integer;" (.ref t) (zA X) s s.heap ∧ va_T (.object "java/lang/Integer") t 256 (fun j => .ref (zN X j)) (zA X) s s.heap) ∧ va_Z "java/lang/Integer$IntegerCache" "high" "I" (.int 127) (zA X) s s.heap ∧
  (va_Z "java/util/ArrayList" "EMPTY_ELEMENTDATA" "[Ljava/lang/Object;" (.ref (ze1 X)) (zA X) s s.heap ∧ va_T (.object "java/lang/Object") (ze1 X) 0 (fun _ => .null) (zA X) s s.heap) ∧
  (va_Z "java/util/ArrayList" "DEFAULTCAPACITY_EMPTY_ELEMENTDATA" "[Ljava/lang/Object;" (.ref (ze2 X)) (zA X) s s.heap ∧ va_T (.object "java/lang/Object") (ze2 X) 0 (fun _ => .null) (zA X) s s.heap) ∧ ze1 X ≠ ze2 X ∧
  (va_Mi "java/util/ArrayList" (zm1 X) s ∧ va_Mi "[Ljava/lang/Object;" (zm2 X) s ∧ va_O "[Ljava/lang/Object;" (ze1 X) (zA X) s s.heap ∧ va_O "[Ljava/lang/Object;" (ze2 X) (zA X) s s.heap) ∧ (vx_Zq Bundle.tN "UNASSIGNED_STACK" Bundle.steD (zA X) s s.heap ∧ vx_Zq Bundle.tN "SUPPRESSED_SENTINEL" Bundle.listD (zA X) s s.heap) ∧
  (∃ a : Nat, vk_R "LogGrammar" 287 "not there" a s) ∧ (∃ a : Nat, vk_R "LogGrammar" 294 "out of range" a s) ∧ ∃ a : Nat, vk_R "LogGrammar" 299 "not possible" a s
/-- what holds at a's start for the whole run -/
def zOk (X : zX) : Prop := va_K (zD X) zcl (zty X) (zs X) ∧ (∀ w ∈ lw_tbl, w.before (zar X) (zs X) = true) ∧ (zl X).flags = flags0 ∧ zSt X (zs X)
/-- what holds in a method's body: m's own class, code, locals, answer, name -/
def zC (X : zX) (d : Nat) (E : zM) (own : String) (cc : ByteArray) (nL : Nat) (ret : Option FieldType) (nm : String) : Prop :=
  ((zp E).tables.exec = Jvm.exec ∧ (zc E).code = cc ∧ (zc E).maxLocals = nL ∧ (zS E).vm.findClass own = some (zm E).cls) ∧ ((zh E).locks = false ∧ (zh E).sig.returnType = ret ∧ (zh E).name = nm) ∧
  (∀ w ∈ lw_all, w.before (za E) (zS E) = true) ∧ zOk X ∧ (zs X).WarmedH (zS E).vm ∧ ((zs X).heap.size ≤ (zS E).heap.size ∧ ∀ q : Nat, q < (zs X).heap.size → (zS E).heap[q]? = (zs X).heap[q]?) ∧
  (zz X - zms (zS E) ≤ (zR E).cells ∧ zz X - zms (zS E) ≤ (zR E).slots ∧ d ≤ (zR E).frames ∧ 64 * d ≤ (zR E).locals)
/-- the frame's end: its answer to K, an exception to KX -/
def zQ (X : zX) (E : zM) (K : Option Value → zG → Prop) (KX : String → zG → Prop) : Prop := zms (zS E) ≤ zz X ∧ (∀ x ∈ (zc E).exceptionTable.toList, False) ∧
  zq E = vx_MQ (zb E) (fun _ st o t => (∃ (r : Option Value) (g' : zG), o = .returned r ∧ zRep X g' t.heap ∧ K r g') ∧ st.heap.size ≤ t.heap.size)
    (fun x st t => (∃ g' : zG, zRep X g' t.heap ∧ KX x g') ∧ st.heap.size ≤ t.heap.size) (za E) (zS E) (zz X - zms (zS E)) (zz X - zms (zS E)) (zA X)
