set_option maxRecDepth 100000
/-! reading what was written -/
theorem zSo_o (g : zG) (k a : Nat) (fs : List Value) : zGo (zSo g k a fs) = zup (zGo g) k a fs := rfl
theorem zSo_i (g : zG) (k a : Nat) (fs : List Value) : zGi (zSo g k a fs) = zGi g := rfl
theorem zSo_q (g : zG) (k a : Nat) (fs : List Value) : zGq (zSo g k a fs) = zGq g := rfl
theorem zSo_j (g : zG) (k a : Nat) (fs : List Value) : zGj (zSo g k a fs) = zGj g := rfl
theorem zSo_z (g : zG) (k a : Nat) (fs : List Value) : zGz (zSo g k a fs) = zGz g := rfl
theorem zSi_o (g : zG) (t a n : Nat) (f : Nat → Int32) : zGo (zSi g t a n f) = zGo g := rfl
theorem zSi_i (g : zG) (t a n : Nat) (f : Nat → Int32) : zGi (zSi g t a n f) = zup (zGi g) t a (n, f) := rfl
theorem zSi_q (g : zG) (t a n : Nat) (f : Nat → Int32) : zGq (zSi g t a n f) = zGq g := rfl
theorem zSi_j (g : zG) (t a n : Nat) (f : Nat → Int32) : zGj (zSi g t a n f) = zGj g := rfl
theorem zSi_z (g : zG) (t a n : Nat) (f : Nat → Int32) : zGz (zSi g t a n f) = zGz g := rfl
theorem zSq_o (g : zG) (t a n : Nat) (f : Nat → Option Nat) : zGo (zSq g t a n f) = zGo g := rfl
theorem zSq_i (g : zG) (t a n : Nat) (f : Nat → Option Nat) : zGi (zSq g t a n f) = zGi g := rfl
theorem zSq_q (g : zG) (t a n : Nat) (f : Nat → Option Nat) : zGq (zSq g t a n f) = zup (zGq g) t a (n, f) := rfl
theorem zSq_j (g : zG) (t a n : Nat) (f : Nat → Option Nat) : zGj (zSq g t a n f) = zGj g := rfl
theorem zSq_z (g : zG) (t a n : Nat) (f : Nat → Option Nat) : zGz (zSq g t a n f) = zGz g := rfl
theorem zSj_o (g : zG) (t a n : Nat) (f : Nat → Int64) : zGo (zSj g t a n f) = zGo g := rfl
theorem zSj_i (g : zG) (t a n : Nat) (f : Nat → Int64) : zGi (zSj g t a n f) = zGi g := rfl
theorem zSj_q (g : zG) (t a n : Nat) (f : Nat → Int64) : zGq (zSj g t a n f) = zGq g := rfl
theorem zSj_j (g : zG) (t a n : Nat) (f : Nat → Int64) : zGj (zSj g t a n f) = zup (zGj g) t a (n, f) := rfl
theorem zSj_z (g : zG) (t a n : Nat) (f : Nat → Int64) : zGz (zSj g t a n f) = zGz g := rfl
theorem zSz_o (g : zG) (z : Nat) : zGo (zSz g z) = zGo g := rfl
theorem zSz_i (g : zG) (z : Nat) : zGi (zSz g z) = zGi g := rfl
theorem zSz_q (g : zG) (z : Nat) : zGq (zSz g z) = zGq g := rfl
theorem zSz_j (g : zG) (z : Nat) : zGj (zSz g z) = zGj g := rfl
theorem zSz_z (g : zG) (z : Nat) : zGz (zSz g z) = z := rfl
