set_option maxRecDepth 100000
/-- the numbers of the class, with the new present -/
def zcf (fi : Nat → Int32) (wh : Int32) : Nat → Int32 := va_up fi 5 (if fi 5 < wh then wh else fi 5)
theorem zlg_len' {fa : Nat → Nat → Int32} {lg : List Nat} {nd wh : Int32} : (zlg fa lg nd wh).length = lg.length + 1 := by
  unfold zlg
  exact List.length_insertIdx_of_le_length (zpc_le fa lg nd wh) _
theorem zlg_mem' {fa : Nat → Nat → Int32} {lg : List Nat} {nd wh : Int32} {v : Nat} : v ∈ zlg fa lg nd wh ↔ v = lg.length ∨ v ∈ lg := by
  unfold zlg
  exact List.mem_insertIdx (zpc_le fa lg nd wh)
section CO2
variable {X : zX} {d : Nat} {x : Nat} {ad fo eo : Nat → Nat} {mo : Nat → Nat → Nat} {c : Nat → Nat × Nat × Nat} {pt pt' : Nat → Nat} {fi fi' : Nat → Int32} {fa fa' : Nat → Nat → Int32} {lg : List Nat} {M P : Nat} {np sz : Nat → Nat} {g g' : zG} {Q : Nat → Prop} {K : Option Value → zG → Prop} {KX : String → zG → Prop}
/-- the line of a log with one more event -/
theorem zLi_ins (hLi : zLi fi fa lg) (hv : ∀ v ∈ lg, v < lg.length) (hl : lg.length ≤ 79) {nd kd id vl lt : Int32} {t : Nat} (ht : t ≤ 11000) (hvl : -1000 ≤ vl.toInt ∧ vl.toInt ≤ 1000) : zLi (zcf fi (nI t)) (zc2 fa lg.length nd (nI t) kd id vl lt) (zlg fa lg nd (nI t)) := by
  obtain ⟨h1, h2, h3, h4, ⟨tt, h5, h6, h7⟩, h8, h9⟩ := hLi
  have old : ∀ j v, v ∈ lg → zc2 fa lg.length nd (nI t) kd id vl lt j v = fa j v := fun j v hm => zc2_v fa lg.length nd (nI t) kd id vl lt (hv v hm)
  have n7 : zc2 fa lg.length nd (nI t) kd id vl lt 7 lg.length = nI t := by
    unfold zc2
    rw [va_up_ne _ _ (by decide), va_up_ne _ _ (by decide), va_up_ne _ _ (by decide), va_up_ne _ _ (by decide), va_up_self]
    exact pk_us
  have n10 : zc2 fa lg.length nd (nI t) kd id vl lt 10 lg.length = vl := by
    unfold zc2
    rw [va_up_ne _ _ (by decide), va_up_self]
    exact pk_us
  have e5 : zcf fi (nI t) 5 = nI (if tt < t then t else tt) := by
    unfold zcf
    rw [va_up_self, h6]
    by_cases c : tt < t
    · rw [if_pos c, if_pos (nI_lt c (by omega))]
    · rw [if_neg c, if_neg (nI_nlt (by omega) (by omega))]
  refine ⟨by rw [zlg_len']; omega, ?_, zri_ins h3 (fun v hm => old 7 v hm) n7, fun v hm => ?_, ⟨if tt < t then t else tt, by split <;> omega, e5, fun v hm => ?_⟩, fun v hm => ?_, fun v hm => ?_⟩
  · unfold zlg
    rw [(List.perm_insertIdx lg.length lg (zpc_le fa lg nd (nI t))).nodup_iff]
    exact List.nodup_cons.mpr ⟨fun z => Nat.lt_irrefl _ (hv _ z), h2⟩
  · rcases zlg_mem'.mp hm with rfl | hm
    · exact ⟨t, ht, n7⟩
    · rw [old 7 v hm]
      exact h4 v hm
  · rw [e5]
    rcases zlg_mem'.mp hm with rfl | hm
    · rw [n7]
      exact nI_le (by split <;> omega) (by split <;> omega)
    · rw [old 7 v hm]
      refine Int32.le_trans (h7 v hm) ?_
      rw [h6]
      exact nI_le (by split <;> omega) (by split <;> omega)
  · rcases zlg_mem'.mp hm with rfl | hm
    · rw [n10]
      exact hvl
    · rw [old 10 v hm]
      exact h8 v hm
  · rcases zlg_mem'.mp hm with rfl | hm
    · omega
    · exact h9 v hm
end CO2
