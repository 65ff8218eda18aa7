set_option maxRecDepth 100000
/-- the sets of k of the first n places, by rising numbers -/
def zcx : Nat → Nat → List Nat
  | 0, 0 => [0]
  | 0, _ + 1 => []
  | _ + 1, 0 => [0]
  | n + 1, k + 1 => zcx n (k + 1) ++ (zcx n k).map (fun x => x + 2 ^ n)
/-- each one's next set is the next one, up to one that's out of the places -/
def zvd : List Nat → Bool
  | [] => false
  | [x] => Nat.blt 65535 x && Nat.blt x 131072
  | x :: y :: t => Nat.blt x 131072 && (Nat.blt 65535 x || (!(nI x &&& (-(nI x)) == 0) && zns (nI x) == nI y)) && zvd (y :: t)
theorem zvd_1 : zvd (zcx 17 1) = true := by decide +kernel
theorem zvd_2 : zvd (zcx 17 2) = true := by decide +kernel
theorem zvd_3 : zvd (zcx 17 3) = true := by decide +kernel
theorem zvd_4 : zvd (zcx 17 4) = true := by decide +kernel
theorem zch_1 : (zcx 17 1).head? = some 1 := by decide +kernel
theorem zch_2 : (zcx 17 2).head? = some 3 := by decide +kernel
theorem zch_3 : (zcx 17 3).head? = some 7 := by decide +kernel
theorem zch_4 : (zcx 17 4).head? = some 15 := by decide +kernel
