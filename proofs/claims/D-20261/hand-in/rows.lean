section
/-- an answer, clipped at nought -/
def or_pos (y : Int64) : Int64 := if 0 ≤ y then y else 0
/-- what both methods answer: twice the greater, clipped at nought -/
def or_room (p0 : Int32) (p1 : Int64) : Int64 := or_pos (if p0.toInt64 ≤ p1 then p1 + p1 else 2 * p0.toInt64)
/-- the greater doubled, in both writings -/
theorem or_twice (a b : Int64) : (if b < a then a else b) * 2 = if a ≤ b then b + b else 2 * a := by
  by_cases h : b < a
  · rw [if_pos h, if_neg (fun z => absurd h (Int64.not_lt.mpr z)), Int64.mul_comm]
  · rw [if_neg h, if_pos (Int64.not_lt.mp h), Int64.mul_two]
/-- the component's method -/
theorem or_x1 {post : Int64 → Prop} {u : St0} {p0 : Int32} {p1 : Int64} (hp : post (or_room p0 p1)) : wpX1_room post u p0 p1 := by
  unfold wpX1_room
  intro y ey
  have e : or_room p0 p1 = or_pos y := by
    unfold or_room
    rw [ey, or_twice]
  rw [e] at hp
  unfold or_pos at hp
  refine br_c (fun h => ?_) (fun h => ?_)
  · by_cases h0 : 0 ≤ y
    · have ez : y = 0 := Int64.le_antisymm h h0
      rw [if_pos h0, ez] at hp
      exact hp
    · rw [if_neg h0] at hp
      exact hp
  · rw [if_pos (Int64.le_of_lt (Int64.not_le.mp h))] at hp
    exact hp
/-- the twin's tail -/
theorem or_x26 {post : Int64 → Prop} {y : Int64} (hp : post (or_pos y)) : wX2_room_26 post y := by
  unfold wX2_room_26
  unfold or_pos at hp
  refine br_c (fun h => ?_) (fun h => ?_)
  · rw [if_pos h] at hp
    exact hp
  · rw [if_neg h] at hp
    exact hp
/-- the twin's method -/
theorem or_x2 {post : Int64 → Prop} {u : St0} {p0 : Int32} {p1 : Int64} (hp : post (or_room p0 p1)) : wpX2_room post u p0 p1 := by
  unfold wpX2_room
  intro y ey z ez
  unfold or_room at hp
  refine br_c (fun h => or_x26 ?_) (fun h => or_x26 ?_)
  · rw [if_pos h] at hp
    rw [ez]
    exact hp
  · rw [if_neg h] at hp
    rw [ey]
    exact hp
/-- the law behind its choice of a reserve -/
theorem or_l18 (x0 : Int32) (z0 : Int64) : wL_lawOf_18 (fun r => r = 1) x0 z0 := by
  unfold wL_lawOf_18
  exact or_x1 (or_x2 (br_t rfl rfl))
theorem or_lawOf (u : St0) (p0 : Int32) (p1 : Int64) (p2 : Int32) : wpL_lawOf (fun r => r = 1) u p0 p1 p2 := by
  unfold wpL_lawOf
  exact br_c (fun _ => or_l18 _ _) (fun _ => or_l18 _ _)
/-- a cell of the script: some int -/
theorem or_cell {post : Int32 → Prop} {L : Nat} {xs : Nat → Int32} {u : St0} {p1 : Int32} (hL : L ≤ 4) (k : Nat) (hk : k < 4) (hx : p1 = nI k) (hp : ∀ r, post r) : wpL_cellAt post L xs u p1 := by
  unfold wpL_cellAt
  subst hx
  exact br_c (fun _ => hp _) (fun h => ⟨vp_in_nI (Nat.not_le.mp (fun q => h (nI_le q (by omega)))) (by omega), hp _⟩)
theorem i_vc (xs : Nat → Int32) (L : Nat) (hL : L ≤ 4) : wpL_law (fun r => r = 1) L xs := by
  unfold wpL_law
  exact or_cell hL 0 (by decide) rfl (fun r1 => or_cell hL 1 (by decide) rfl (fun r2 => or_cell hL 2 (by decide) rfl (fun r3 => or_cell hL 3 (by decide) rfl (fun r4 => or_lawOf _ _ _ _))))
end
