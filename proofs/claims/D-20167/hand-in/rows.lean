section
/-- half of an int lies in [-2^30, 2^30) -/
theorem cs_half (x : Int32) : -(2 ^ 30) ≤ (x >>> ((1 : Int32) &&& 31)).toInt ∧ (x >>> ((1 : Int32) &&& 31)).toInt < 2 ^ 30 := by
  have h := pk_shr x ((1 : Int32) &&& 31) 1 (by decide)
  have e : x.toInt >>> 1 = x.toInt / 2 := Int.shiftRight_eq_div_pow _ _
  have h1 := Int32.toInt_lt x
  have h2 := Int32.le_toInt x
  rw [h, e]
  omega
/-- two halves never overflow -/
theorem cs_sum {a b : Int32} (ha : -(2 ^ 30) ≤ a.toInt) (ha' : a.toInt < 2 ^ 30) (hb : -(2 ^ 30) ≤ b.toInt) (hb' : b.toInt < 2 ^ 30) : (a + b).toInt = a.toInt + b.toInt := by
  rw [Int32.toInt_add]
  exact Int.bmod_eq_of_le_mul_two (by omega) (by omega)
/-- not negative: the sign bit is clear -/
theorem cs_sign (z : Int32) : 0 ≤ z ↔ z.toBitVec.msb = false := by
  rw [Int32.le_iff_toInt_le, Int32.toInt_zero, BitVec.msb_eq_toInt, Int32.toInt_toBitVec, decide_eq_false_iff_not]
  omega
theorem cs_bool : ∀ p q r : Bool, (p = q → r = p) → ((p ^^ r) && (q ^^ r)) = false := by decide
/-- addExact's check passes on two halves -/
theorem cs_ok {a b : Int32} (ha : -(2 ^ 30) ≤ a.toInt) (ha' : a.toInt < 2 ^ 30) (hb : -(2 ^ 30) ≤ b.toInt) (hb' : b.toInt < 2 ^ 30) : 0 ≤ ((a ^^^ (a + b)) &&& (b ^^^ (a + b))) := by
  have hs := cs_sum ha ha' hb hb'
  apply (cs_sign _).mpr
  show ((a.toBitVec ^^^ (a + b).toBitVec) &&& (b.toBitVec ^^^ (a + b).toBitVec)).msb = false
  rw [BitVec.msb_and, BitVec.msb_xor, BitVec.msb_xor]
  simp only [BitVec.msb_eq_toInt, Int32.toInt_toBitVec, hs]
  apply cs_bool
  intro h
  by_cases na : a.toInt < 0
  · have nb : b.toInt < 0 := by
      rw [decide_eq_true na] at h
      exact of_decide_eq_true h.symm
    rw [decide_eq_true na]
    exact decide_eq_true (by omega)
  · have nb : ¬ b.toInt < 0 := by
      rw [decide_eq_false na] at h
      exact of_decide_eq_false h.symm
    rw [decide_eq_false na]
    exact decide_eq_false (by omega)
/-- the twin's sum over longs, narrowed, is the sum over ints -/
theorem cs_twin (a b : Int32) : (a.toInt64 + b.toInt64).toInt32 = a + b := by
  rw [Int64.toInt32_add, Int32.toInt32_toInt64, Int32.toInt32_toInt64]
end
section
/-- cellAt answers something, whatever the script's length -/
theorem cs_cell {post : Int32 → Prop} {L : Nat} {xs : Nat → Int32} {u : St0} {p1 : Int32} (hL : L ≤ 2) (k : Nat) (hk : k < 2) (hp : p1 = nI k) (H : ∀ r, post r) : wpL_cellAt post L xs u p1 := by
  subst hp
  unfold wpL_cellAt
  exact pk_le L k (fun _ => H _) (fun z => ⟨pk_in k L z, H _⟩)
/-- lawOf answers 1 on any two ints -/
theorem cs_lawOf {post : Int32 → St0 → Prop} (x y : Int32) (u : St0) (hp : post 1 ()) : wpL_lawOf post 1 16 u x y := by
  obtain ⟨a1, a2⟩ := cs_half x
  obtain ⟨b1, b2⟩ := cs_half y
  unfold wpL_lawOf
  refine ⟨1, 1, by omega, by omega, ?_⟩
  unfold wpX1_pay
  refine ⟨by omega, by omega, ?_⟩
  unfold wpX0_init wpJ9_addExact_7cf53_48e5c
  refine nm_e (br_t (cs_ok a1 a2 b1 b2) ?_)
  unfold wpX2_pay
  exact nm_e (br_t (cs_twin _ _).symm hp)
theorem i_vc (xs : Nat → Int32) (L : Nat) (hL : L ≤ 2) : wpL_law (fun r => r = 1) L xs := by
  unfold wpL_law
  exact cs_cell hL 0 (by omega) rfl (fun a => cs_cell hL 1 (by omega) rfl (fun b => ⟨1, 16, by omega, by omega, cs_lawOf a b () rfl⟩))
end
