/-! THE PLAIN LAW: calendars -/
theorem x0_in {a b c : Int} (ha : -2147483648 ≤ a ∧ a < 2147483648) (hb : -2147483648 ≤ b ∧ b < 2147483648) (hc : -2147483648 ≤ c ∧ c < 2147483648) : fX0_in (i3 a) (i3 b) (i3 c) = some (b3 (b ≤ a ∧ a ≤ c)) := by
  simp (disch := omega) only [fX0_in, i3_lit, i3_lt]
  unfold b3
  grind
theorem x7_in {a b c : Int} (ha : -9223372036854775808 ≤ a ∧ a < 9223372036854775808) (hb : -9223372036854775808 ≤ b ∧ b < 9223372036854775808) (hc : -9223372036854775808 ≤ c ∧ c < 9223372036854775808) : fX7_in (i6 a) (i6 b) (i6 c) = some (b3 (b ≤ a ∧ a ≤ c)) := by
  simp (disch := omega) only [fX7_in, i3_lit, i6_lt]
  unfold b3
  grind
abbrev cLg (y c : Int) : Prop := y % 4 = 0 ∧ (c = 0 ∨ y % 100 ≠ 0 ∨ y % 400 = 0)
theorem x0_isLong {y c : Int} (hy : 0 ≤ y ∧ y < 10000) (hc : 0 ≤ c ∧ c ≤ 1) : fX0_isLong (i3 y) (i3 c) = some (b3 (cLg y c)) := by
  simp (disch := omega) only [fX0_isLong, i3_lit, i3_div, i3_mul, i3_sub, i3_eq, ne_eq]
  unfold b3
  grind
theorem x7_isLong {y c : Int} (hy : 1600 ≤ y ∧ y < 1999) (hc : 0 ≤ c ∧ c ≤ 1) : fX7_isLong (i3 y) (i3 c) = some (b3 (cLg y c)) := by
  simp (disch := omega) only [fX7_isLong, i3_lit, i3_div, i3_mul, i3_sub, i3_eq, ne_eq]
  unfold b3
  grind
/-- days of a month -/
def cML (y m c : Int) : Int := if m = 2 then (if cLg y c then 29 else 28) else if m = 4 ∨ m = 6 ∨ m = 9 ∨ m = 11 then 30 else 31
theorem cML_b (y m c : Int) : 28 ≤ cML y m c ∧ cML y m c ≤ 31 := by
  unfold cML
  grind
theorem x0_daysOf {y m c : Int} (hy : 0 ≤ y ∧ y < 10000) (hm : 1 ≤ m ∧ m ≤ 12) (hc : 0 ≤ c ∧ c ≤ 1) : fX0_daysOf (i3 y) (i3 m) (i3 c) = some (i3 (cML y m c)) := by
  simp (disch := omega) only [fX0_daysOf, x0_isLong hy hc, i3_lit, i3_eq, Option.bind_some, b3_0]
  unfold cML
  grind
theorem x7_monthLong {y m c : Int} (hy : 1600 ≤ y ∧ y < 1999) (hm : 1 ≤ m ∧ m ≤ 12) (hc : 0 ≤ c ∧ c ≤ 1) : fX7_monthLong (i3 y) (i3 m) (i3 c) = some (i3 (cML y m c)) := by
  simp (disch := omega) only [fX7_monthLong, x7_isLong hy hc, i3_lit, i3_eq, Option.bind_some, b3_0, ne_eq]
  unfold cML
  grind
