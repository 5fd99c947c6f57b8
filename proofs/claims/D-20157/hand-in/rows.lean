section
/-- narrow against its twin, at an int: toIntExact of a widened int gives it back, and negateExact isn't met at the least int -/
theorem ws_28 {x2 z0 : Int32} (h : ¬ x2 = 0 → ¬ z0 = (-2147483648)) : wL_lawOf_28 (fun r => r = 1) x2 z0 := by
  have e : z0.toInt64.toInt32 = z0 := Int32.toInt32_toInt64 z0
  unfold wL_lawOf_28 wpX0_narrow wpJ9_toIntExact_95d88_565d2 wpJ9_negateExact_0f7a4_565d2 wpX1_narrow
  rw [e]
  exact br_t rfl
    ⟨fun h0 => br_t h0 (br_t rfl rfl),
      fun h1 => br_f (h h1) (br_f h1 (br_t rfl rfl))⟩
theorem ws_11 (x z : Int32) : wL_lawOf_11 (fun r => r = 1) x z := by
  unfold wL_lawOf_11 wL_lawOf_27
  exact ⟨fun h0 => ws_28 (fun h => absurd h0 h), fun _ => ⟨fun _ => ws_28 (fun _ => by decide), fun hx => ws_28 (fun _ => hx)⟩⟩
theorem ws_lawOf (u : St0) (a b : Int32) : wpL_lawOf (fun r => r = 1) u a b := by
  unfold wpL_lawOf
  exact ⟨fun _ => ws_11 a 0, fun _ => ws_11 a 1⟩
theorem ws_cell {post : Int32 → Prop} {xs : Nat → Int32} {L : Nat} (hL : L ≤ 2) (u : St0) (k : Nat) (hk : k ≤ 1) (H : ∀ v, post v) : wpL_cellAt post L xs u (nI k) := by
  unfold wpL_cellAt
  exact pk_le L k (fun _ => H _) (fun z => ⟨vp_in_nI z (by omega), H _⟩)
/-! ===== WHAT IS OWED for WholeStepsLaw ===== -/
theorem i_vc (xs : Nat → Int32) (L : Nat) (hL : L ≤ 2) : wpL_law (fun r => r = 1) L xs := by
  unfold wpL_law
  exact ws_cell hL () 0 (by omega) (fun v => ws_cell hL () 1 (by omega) (fun w => ws_lawOf () v w))
end
