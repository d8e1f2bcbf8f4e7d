/-! the words of the three throws -/
set_option maxRecDepth 100000
def zthb (own cls : String) (names : List String) (ic : Nat) : Bool := (vx_at0 own ic cls names).all fun w => decide (w ∈ lw_all) || (decide (w ∈ znx) && w.onTables)
theorem zthb_use {own cls : String} {names : List String} {ic : Nat} (h : zthb own cls names ic = true) : ∀ w ∈ vx_at0 own ic cls names, w ∈ lw_all ∨ (w ∈ znx ∧ w.onTables = true) := by
  intro w hw
  have h1 := List.all_eq_true.mp h w hw
  simp only [Bool.or_eq_true, Bool.and_eq_true, decide_eq_true_eq] at h1
  exact h1
def zths : List String := ["java/lang/RuntimeException", "java/lang/Exception"]
theorem zthr_0 : zthr RX1 (zxn 0) zths 1 3 := ⟨by decide +kernel, by decide +kernel, by decide +kernel, by decide +kernel, zthb_use (by decide +kernel), by decide +kernel⟩
theorem zthr_1 : zthr RX1 (zxn 1) zths 7 9 := ⟨by decide +kernel, by decide +kernel, by decide +kernel, by decide +kernel, zthb_use (by decide +kernel), by decide +kernel⟩
theorem zthr_2 : zthr RX1 (zxn 2) zths 10 12 := ⟨by decide +kernel, by decide +kernel, by decide +kernel, by decide +kernel, zthb_use (by decide +kernel), by decide +kernel⟩
