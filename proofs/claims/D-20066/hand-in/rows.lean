section
/-- an int is not negative exactly if its top bit is clear -/
theorem cs_sign (z : Int32) : 0 ≤ z ↔ z.toBitVec.msb = false := by
  rw [Int32.le_iff_toInt_le, BitVec.msb_eq_toInt, decide_eq_false_iff_not]
  show (0 : Int) ≤ z.toBitVec.toInt ↔ _
  omega
/-- the top bit, by the int's value -/
theorem cs_top (z : Int32) : z.toBitVec.msb = decide (z.toInt < 0) := BitVec.msb_eq_toInt
/-- a difference that fits -/
theorem cs_sub {a b : Int32} (h1 : -2147483648 ≤ a.toInt - b.toInt) (h2 : a.toInt - b.toInt < 2147483648) : (a - b).toInt = a.toInt - b.toInt := by
  rw [Int32.toInt_sub]
  exact Int.bmod_eq_of_le (by omega) (by omega)
/-- the negative of an int other than the least -/
theorem cs_neg {d : Int32} (h : -2147483648 < d.toInt) (h2 : d.toInt < 2147483648) : (-d).toInt = -d.toInt := by
  rw [Int32.toInt_neg]
  exact Int.bmod_eq_of_le (by omega) (by omega)
/-- subtractExact's test passes where the difference fits -/
theorem cs_fits {a b : Int32} (h1 : -2147483648 ≤ a.toInt - b.toInt) (h2 : a.toInt - b.toInt < 2147483648) : 0 ≤ ((a ^^^ b) &&& (a ^^^ (a - b))) := by
  have e := cs_sub h1 h2
  rw [cs_sign, Int32.toBitVec_and, Int32.toBitVec_xor, Int32.toBitVec_xor, BitVec.msb_and, BitVec.msb_xor, BitVec.msb_xor, cs_top a, cs_top b, cs_top (a - b), e]
  by_cases ha : a.toInt < 0
  · by_cases hb : b.toInt < 0
    · simp [ha, hb]
    · have hd : a.toInt - b.toInt < 0 := by omega
      simp only [ha, hb, hd, decide_true, decide_false]
      rfl
  · by_cases hb : b.toInt < 0
    · have hd : ¬ a.toInt - b.toInt < 0 := by omega
      simp only [ha, hb, hd, decide_true, decide_false]
      rfl
    · simp [ha, hb]
/-- half of an int -/
theorem cs_half (x : Int32) : -1073741824 ≤ (x >>> ((1 : Int32) &&& 31)).toInt ∧ (x >>> ((1 : Int32) &&& 31)).toInt ≤ 1073741823 := by
  have e : (x >>> ((1 : Int32) &&& 31)).toInt = x.toInt >>> 1 := pk_shr x _ 1 (by decide)
  rw [e, Int.shiftRight_eq_div_pow]
  have h1 := Int32.le_toInt x
  have h2 := Int32.toInt_lt x
  omega
/-- the two ways of reckoning, as ints -/
theorem cs_same (a b : Int32) : -(a - b) + 1 = (b.toInt64 + 1 - a.toInt64).toInt32 := by
  rw [Int64.toInt32_sub, Int64.toInt32_add, Int32.toInt32_toInt64, Int32.toInt32_toInt64]
  rw [show (1 : Int64).toInt32 = 1 from rfl]
  grind
end
section
/-- the script's cell, or 0 behind its end: no cell is asked for out of bounds -/
theorem cs_cell {post : Int32 → Prop} {L : Nat} {xs : Nat → Int32} {u : St0} (k : Nat) (hk : k < 2) (hL : L ≤ 2) (H : ∀ v, post v) {p : Int32} (hp : p = nI k) : wpL_cellAt post L xs u p :=
  pk_le L k (fun _ => H 0) (fun z => ⟨pk_in k L z hp, H _⟩) rfl hp
/-- the component: where a - b fits, isn't the least int, and its negative isn't the greatest, no check throws -/
theorem cs_X1 {post : Int32 → Prop} {u : St0} {a b : Int32} (h1 : -2147483646 ≤ a.toInt - b.toInt) (h2 : a.toInt - b.toInt < 2147483648) (H : post (-(a - b) + 1)) : wpX1_turnedStep post u a b := by
  have e := cs_sub (a := a) (b := b) (by omega) h2
  have n := cs_neg (d := a - b) (by omega) (by omega)
  refine nm_e (br_t (cs_fits (by omega) h2) (br_f (fun z => ?_) (br_f (fun z => ?_) H)))
  · have t : (a - b).toInt = -2147483648 := by rw [z]; rfl
    omega
  · have t : (-(a - b)).toInt = 2147483647 := by rw [z]; rfl
    omega
/-- both sides answer alike -/
theorem cs_16 {a b : Int32} (h1 : -2147483646 ≤ a.toInt - b.toInt) (h2 : a.toInt - b.toInt < 2147483648) : wL_lawOf_16 (fun r => r = 1) a b :=
  cs_X1 h1 h2 (nm_e (nm_e (br_t (cs_same a b) rfl)))
theorem cs_lawOf (x y : Int32) : wpL_lawOf (fun r => r = 1) () x y := by
  have hx := cs_half x
  have hy := cs_half y
  refine nm_e (nm_e (br_c (fun g => ?_) (fun g => ?_)))
  · rw [Int32.le_iff_toInt_le, show ((-1073741820 : Int32)).toInt = -1073741820 from rfl] at g
    exact cs_16 (by omega) (by omega)
  · have f : (5 : Int32).toInt = 5 := rfl
    exact cs_16 (by omega) (by omega)
/-! ===== WHAT IS OWED for CheckedSumsLaw: one statement: the law answers true on every script of L ints xs ===== -/
theorem i_vc (xs : Nat → Int32) (L : Nat) (hL : L ≤ 2) : wpL_law (fun r => r = 1) L xs :=
  cs_cell 0 (by omega) hL (fun x => cs_cell 1 (by omega) hL (fun y => cs_lawOf x y) rfl) rfl
end
