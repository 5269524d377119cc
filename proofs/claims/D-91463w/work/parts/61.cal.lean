/-! THE PLAIN LAW: calendars -/
theorem i3p2 {a b a' b' : Int} (h : a = a') (g : b = b') : (i3 a, i3 b) = (i3 a', i3 b') := by rw [h, g]
theorem x0_in {a b c : Int} (ha : -2147483648 ≤ a ∧ a < 2147483648) (hb : -2147483648 ≤ b ∧ b < 2147483648) (hc : -2147483648 ≤ c ∧ c < 2147483648) : fX0_in (i3 a) (i3 b) (i3 c) = some (b3 (b ≤ a ∧ a ≤ c)) := by
  simp (disch := omega) only [fX0_in, i3_lit, i3_lt]
  unfold b3
  grind
theorem x7_in {a b c : Int} (ha : -9223372036854775808 ≤ a ∧ a < 9223372036854775808) (hb : -9223372036854775808 ≤ b ∧ b < 9223372036854775808) (hc : -9223372036854775808 ≤ c ∧ c < 9223372036854775808) : fX7_in (i6 a) (i6 b) (i6 c) = some (b3 (b ≤ a ∧ a ≤ c)) := by
  simp (disch := omega) only [fX7_in, i3_lit, i6_lt]
  unfold b3
  grind
abbrev cLg (y c : Int) : Prop := y % 4 = 0 ∧ (c = 0 ∨ y % 100 ≠ 0 ∨ y % 400 = 0)
theorem x0_isLong {y c : Int} (hy : 0 ≤ y ∧ y < 10000) (hc : 0 ≤ c ∧ c ≤ 1) : fX0_isLong (i3 y) (i3 c) = some (b3 (cLg y c)) := by
  simp (disch := omega) only [fX0_isLong, i3_lit, i3_div, i3_mul, i3_sub, i3_eq, ne_eq]
  unfold b3
  grind
theorem x7_isLong {y c : Int} (hy : 1600 ≤ y ∧ y < 1999) (hc : 0 ≤ c ∧ c ≤ 1) : fX7_isLong (i3 y) (i3 c) = some (b3 (cLg y c)) := by
  simp (disch := omega) only [fX7_isLong, i3_lit, i3_div, i3_mul, i3_sub, i3_eq, ne_eq]
  unfold b3
  grind
/-- days of a month -/
def cML (y m c : Int) : Int := if m = 2 then (if cLg y c then 29 else 28) else if m = 4 ∨ m = 6 ∨ m = 9 ∨ m = 11 then 30 else 31
theorem cML_b (y m c : Int) : 28 ≤ cML y m c ∧ cML y m c ≤ 31 := by
  unfold cML
  grind
theorem x0_daysOf {y m c : Int} (hy : 0 ≤ y ∧ y < 10000) (hm : 1 ≤ m ∧ m ≤ 12) (hc : 0 ≤ c ∧ c ≤ 1) : fX0_daysOf (i3 y) (i3 m) (i3 c) = some (i3 (cML y m c)) := by
  simp (disch := omega) only [fX0_daysOf, x0_isLong hy hc, i3_lit, i3_eq, obs, b3_0]
  unfold cML
  grind
theorem x7_monthLong {y m c : Int} (hy : 1600 ≤ y ∧ y < 1999) (hm : 1 ≤ m ∧ m ≤ 12) (hc : 0 ≤ c ∧ c ≤ 1) : fX7_monthLong (i3 y) (i3 m) (i3 c) = some (i3 (cML y m c)) := by
  simp (disch := omega) only [fX7_monthLong, x7_isLong hy hc, i3_lit, i3_eq, obs, b3_0, ne_eq]
  unfold cML
  grind
/-- the first of January of a year -/
def cYB (y c : Int) : Int := 365 * (y - 1600) + (y - 1600 + 3) / 4 + (if c = 0 then 10 else (if 1700 < y then -1 else 0) + (if 1800 < y then -1 else 0) + (if 1900 < y then -1 else 0))
theorem cYB_s {y c : Int} (hy : 1600 ≤ y ∧ y ≤ 1998) : cYB (y + 1) c = cYB y c + (if cLg y c then 366 else 365) := by
  unfold cYB
  grind
theorem cYB_b {y c : Int} (hy : 1600 ≤ y ∧ y ≤ 1999) : 365 * (y - 1600) ≤ cYB y c ∧ cYB y c ≤ 366 * (y - 1600) + 10 := by
  unfold cYB
  grind
theorem x0_yearBegins {y c : Int} (hy : 1600 ≤ y ∧ y ≤ 1999) (hc : 0 ≤ c ∧ c ≤ 1) : fX0_yearBegins (i3 y) (i3 c) = some (i3 (cYB y c)) := by
  simp (disch := omega) only [fX0_yearBegins, i3_lit, i3_div, i3_mul, i3_sub, i3_add, i3_eq, i3_le, ne_eq]
  unfold cYB
  by_cases h : c = 0
  · simp only [h, not_true_eq_false, if_false, if_true]
  · have h1 : c = 1 := by omega
    subst h1
    by_cases a : y ≤ 1700 <;> by_cases b : y ≤ 1800 <;> by_cases e : y ≤ 1900 <;> simp (disch := omega) only [a, b, e, if_true, if_false, i3_sub, if_pos, if_neg] <;> congr 2 <;> grind
/-- days of a year ahead of month n + 1 -/
def cMS (y c : Int) : Nat → Int
  | 0 => 0
  | n + 1 => cMS y c n + cML y (n + 1) c
theorem cMS_b (y c : Int) (n : Nat) : 28 * (n : Int) ≤ cMS y c n ∧ cMS y c n ≤ 31 * (n : Int) := by
  induction n with
  | zero => exact ⟨by show (28 : Int) * 0 ≤ 0; omega, by show (0 : Int) ≤ 31 * 0; omega⟩
  | succ n ih =>
    have h := cML_b y (n + 1) c
    show 28 * ((n : Int) + 1) ≤ cMS y c n + cML y (n + 1) c ∧ cMS y c n + cML y (n + 1) c ≤ 31 * ((n : Int) + 1)
    omega
theorem cMS_12 (y c : Int) : cMS y c 12 = (if cLg y c then 366 else 365) := by
  simp only [cMS, cML]
  grind
def dOf (y m d c : Int) : Int := cYB y c + cMS y c (m - 1).toNat + d - 1
theorem x0_dayAt {y m d c : Int} (hy : 1600 ≤ y ∧ y ≤ 1999) (hm : 1 ≤ m ∧ m ≤ 12) (hc : 0 ≤ c ∧ c ≤ 1) : fX0_dayAt (i3 y) (i3 m) (i3 d) (i3 c) = some (i3 (dOf y m d c)) := by
  simp (disch := omega) only [fX0_dayAt, x0_yearBegins hy hc, obs, i3_lit, i3_add, i3_sub]
  refine ev_is (ev_lp0 (fun k s => s = (i3 (cYB y c + cMS y c k + d - 1), i3 (k + 1)) ∧ (k : Int) ≤ m - 1) 12 (by omega) ⟨by simp only [cMS, Int.add_zero]; rfl, by omega⟩ ?_)
  rintro k s rec ⟨rfl, hk⟩
  by_cases h : m ≤ k + 1
  · right
    obtain rfl : m = k + 1 := by omega
    have e : ((k : Int) + 1 - 1).toNat = k := by omega
    simp (disch := omega) only [fX0_dayAt_L14, i3_le, Int.le_refl, if_true, ev_some, dOf, e]
  · left
    have e : (k : Int) + 1 ≤ 12 := by omega
    simp (disch := omega) only [fX0_dayAt_L14, i3_le, h, if_false, i3_lit, x0_daysOf, obs, i3_add]
    refine ⟨_, rfl, by omega, ?_, by omega⟩
    simp only [cMS]
    congr 2
    grind
theorem x7_dayOf {y m d c : Int} (hy : 1600 ≤ y ∧ y ≤ 1998) (hm : 1 ≤ m ∧ m ≤ 12) (hc : 0 ≤ c ∧ c ≤ 1) : fX7_dayOf (i3 y) (i3 m) (i3 d) (i3 c) = some (i3 (dOf y m d c)) := by
  have e0 : (if i3 c ≠ 0 then (0 : Int32) else 10) = i3 (cYB 1600 c) := by
    simp (disch := omega) only [i3_lit, i3_eq, ne_eq, cYB]
    grind
  simp (disch := omega) only [fX7_dayOf, e0]
  refine ev_is (ev_lp0 (fun k s => s = (i3 (cYB (1600 + k) c), i3 (1600 + k)) ∧ (k : Int) ≤ y - 1600) 400 (by omega) ⟨rfl, by omega⟩ ?_)
  rintro k s rec ⟨rfl, hk⟩
  by_cases h : y ≤ 1600 + k
  · right
    obtain rfl : y = 1600 + k := by omega
    simp (disch := omega) only [fX7_dayOf_L17, i3_le, Int.le_refl, if_true]
    generalize (1600 + k : Int) = y at *
    refine ev_lp0 (fun k s => s = (i3 (cYB y c + cMS y c k), i3 (k + 1)) ∧ (k : Int) ≤ m - 1) 12 (by omega) ⟨by simp only [cMS, Int.add_zero]; rfl, by omega⟩ ?_
    rintro k s rec ⟨rfl, hk⟩
    by_cases h : m ≤ k + 1
    · right
      obtain rfl : m = k + 1 := by omega
      have e : ((k : Int) + 1 - 1).toNat = k := by omega
      simp (disch := omega) only [fX7_dayOf_L55, i3_le, Int.le_refl, if_true, ev_some, dOf, e, i3_add, i3_sub, i3_lit]
    · left
      have e : (k : Int) + 1 ≤ 12 := by omega
      simp (disch := omega) only [fX7_dayOf_L55, i3_le, h, if_false, i3_lit, x7_monthLong, obs, i3_add]
      refine ⟨_, rfl, by omega, ?_, by omega⟩
      simp only [cMS]
      congr 2
      grind
  · left
    have := cYB_s (y := 1600 + k) (c := c) (by omega)
    simp (disch := omega) only [fX7_dayOf_L17, i3_le, h, if_false, i3_lit, x7_isLong, obs, b3_0, i3_add]
    refine ⟨(i3 (cYB (1600 + k) c + if cLg (1600 + k) c then 366 else 365), i3 (1600 + k + 1)), ?_, by omega, ?_, by omega⟩
    · by_cases g : cLg (1600 + k) c
      · rw [if_neg (fun q => q g), if_pos g, i3_add]
      · rw [if_pos g, if_neg g, i3_add]
    · rw [← this]
      have e : (1600 : Int) + (k + 1 : Nat) = 1600 + k + 1 := by omega
      rw [e]
abbrev cDay (d : Int) : Prop := 0 ≤ d ∧ d ≤ 109999
theorem xJ_max {a b : Int} (ha : -2147483648 ≤ a ∧ a < 2147483648) (hb : -2147483648 ≤ b ∧ b < 2147483648) : fJ5_max (i3 a) (i3 b) = some (i3 (max a b)) := by
  simp (disch := omega) only [fJ5_max, i3_lt]
  grind
theorem xJ_min {a b : Int} (ha : -2147483648 ≤ a ∧ a < 2147483648) (hb : -2147483648 ≤ b ∧ b < 2147483648) : fJ5_min (i3 a) (i3 b) = some (i3 (min a b)) := by
  simp (disch := omega) only [fJ5_min, i3_lt]
  grind
theorem xJ_max2 {a b : Int} (ha : -9223372036854775808 ≤ a ∧ a < 9223372036854775808) (hb : -9223372036854775808 ≤ b ∧ b < 9223372036854775808) : fJ5_max_2 (i6 a) (i6 b) = some (i6 (max a b)) := by
  simp (disch := omega) only [fJ5_max_2, i6_lt]
  grind
theorem xJ_min2 {a b : Int} (ha : -9223372036854775808 ≤ a ∧ a < 9223372036854775808) (hb : -9223372036854775808 ≤ b ∧ b < 9223372036854775808) : fJ5_min_2 (i6 a) (i6 b) = some (i6 (min a b)) := by
  simp (disch := omega) only [fJ5_min_2, i6_lt]
  grind
theorem xJ_abs {a : Int} (ha : -9223372036854775808 < a ∧ a < 9223372036854775808) : fJ5_abs (i6 a) = some (i6 (if 0 ≤ a then a else -a)) := by
  simp (disch := omega) only [fJ5_abs, i6_lit, i6_le, i6_neg]
  grind
theorem x0_isDay {d : Int} (h : -2147483648 ≤ d ∧ d < 2147483648) : fX0_isDay (i3 d) = some (b3 (cDay d)) := by
  simp (disch := omega) only [fX0_isDay, i3_lit, x0_in, obs, b3_ok, if_true]
theorem x7_isDay {d : Int} (h : -2147483648 ≤ d ∧ d < 2147483648) : fX7_isDay (i3 d) = some (b3 (cDay d)) := by
  simp (disch := omega) only [fX7_isDay, i6_lit, i3_l, x7_in, obs, b3_ok, if_true]
abbrev cDt (y m d c : Int) : Prop := (1600 ≤ y ∧ y ≤ 1901) ∧ (1 ≤ m ∧ m ≤ 12) ∧ 1 ≤ d ∧ d ≤ cML y m c
theorem x0_isDate {y m d c : Int} (hy : -2147483648 ≤ y ∧ y < 2147483648) (hm : -2147483648 ≤ m ∧ m < 2147483648) (hd : -2147483648 ≤ d ∧ d < 2147483648) (hc : 0 ≤ c ∧ c ≤ 1) : fX0_isDate (i3 y) (i3 m) (i3 d) (i3 c) = some (b3 (cDt y m d c)) := by
  have hb := cML_b y m c
  simp (disch := omega) only [fX0_isDate, i3_lit, x0_in, obs, b3_0]
  by_cases h1 : 1600 ≤ y ∧ y ≤ 1901
  · by_cases h2 : 1 ≤ m ∧ m ≤ 12
    · simp (disch := omega) only [h1, h2, x0_daysOf, x0_in, obs, b3_0, b3_if0, not_true_eq_false, if_false, and_self, true_and]
      congr 1
      exact b3_c (by grind)
    · simp (disch := omega) only [h1, h2, not_true_eq_false, not_false_eq_true, if_false, if_true, and_self]
      unfold b3
      grind
  · simp (disch := omega) only [h1, not_false_eq_true, if_true]
    unfold b3
    grind
theorem x7_isDate {y m d c : Int} (hy : -2147483648 ≤ y ∧ y < 2147483648) (hm : -2147483648 ≤ m ∧ m < 2147483648) (hd : -2147483648 ≤ d ∧ d < 2147483648) (hc : 0 ≤ c ∧ c ≤ 1) : fX7_isDate (i3 y) (i3 m) (i3 d) (i3 c) = some (b3 (cDt y m d c)) := by
  have hb := cML_b y m c
  simp (disch := omega) only [fX7_isDate, i3_lit, i6_lit, i3_l, x7_in, obs, b3_0]
  by_cases h1 : 1600 ≤ y ∧ y ≤ 1901
  · by_cases h2 : 1 ≤ m ∧ m ≤ 12
    · simp (disch := omega) only [h1, h2, x7_monthLong, x7_in, i3_l, obs, b3_0, b3_if0, not_true_eq_false, if_false, and_self, true_and]
      congr 1
      exact b3_c (by grind)
    · simp (disch := omega) only [h1, h2, not_true_eq_false, not_false_eq_true, if_false, if_true, and_self]
      unfold b3
      grind
  · simp (disch := omega) only [h1, not_false_eq_true, if_true]
    unfold b3
    grind
/-- a day and its date -/
def cAt (d c y m e : Int) : Prop := cDt y m e c ∧ d = dOf y m e c
theorem cMS_le (y c : Int) (n k : Nat) : cMS y c n + 28 * (k : Int) ≤ cMS y c (n + k) := by
  induction k with
  | zero => simp
  | succ k ih =>
    have h := cML_b y (n + k + 1 : Nat) c
    show _ ≤ cMS y c (n + k) + cML y ((n + k : Nat) + 1) c
    grind
theorem cAt_l {d c y m e : Int} (h : cAt d c y m e) : cMS y c (m - 1).toNat ≤ d - cYB y c ∧ d - cYB y c < cMS y c m.toNat ∧ 0 ≤ d - cYB y c ∧ d - cYB y c < (if cLg y c then 366 else 365) := by
  obtain ⟨⟨h1, h2, h3⟩, h4⟩ := h
  have e1 : m.toNat = (m - 1).toNat + 1 := by omega
  have e2 : cMS y c m.toNat = cMS y c (m - 1).toNat + cML y m c := by
    rw [e1]
    show _ + cML y (((m - 1).toNat : Int) + 1) c = _
    congr 2
    omega
  have e3 := cMS_12 y c
  have e4 := cMS_le y c m.toNat (12 - m.toNat)
  rw [show m.toNat + (12 - m.toNat) = 12 by omega] at e4
  have e5 := cMS_b y c (m - 1).toNat
  unfold dOf at h4
  generalize (if cLg y c then (366 : Int) else 365) = L at *
  omega
theorem x0_yearOf {d c y m e : Int} (h : cAt d c y m e) (hd : 0 ≤ d ∧ d ≤ 120000) (hc : 0 ≤ c ∧ c ≤ 1) : fX0_yearOf (i3 d) (i3 c) = some (i3 y) := by
  have hl := cAt_l h
  have hy := h.1.1
  have hb := cYB_b (y := y) (c := c) (by omega)
  have hs := cYB_s (y := y) (c := c) (by omega)
  have mono : ∀ (k : Nat) (a : Int), 1600 ≤ a → a + k ≤ 1999 → cYB a c + 365 * k ≤ cYB (a + k) c := by
    intro k
    induction k with
    | zero => intro a _ _; simp
    | succ k ih =>
      intro a h1 h2
      have := ih a h1 (by omega)
      have h3 := cYB_s (y := a + k) (c := c) (by omega)
      rw [show a + ((k + 1 : Nat) : Int) = a + k + 1 by omega, h3]
      grind
  have mn : ∀ a b : Int, 1600 ≤ a → a ≤ b → b ≤ 1999 → cYB a c + 365 * (b - a) ≤ cYB b c := by
    intro a b h1 h2 h3
    have := mono (b - a).toNat a h1 (by omega)
    rw [show a + ((b - a).toNat : Int) = b by omega] at this
    omega
  generalize hq : (max 0 (d - 10)) / 366 = q
  have hq0 : 0 ≤ q ∧ q ≤ y - 1600 := by
    have : max 0 (d - 10) = if d - 10 ≤ 0 then 0 else d - 10 := by grind
    rw [this] at hq
    grind
  simp (disch := omega) only [fX0_yearOf, i3_lit, i3_sub, xJ_max, obs, i3_div, i3_add, hq]
  refine ev_is (ev_lp0 (fun k s => s = i3 (1600 + q + k) ∧ (k : Int) ≤ y - 1600 - q) 400 (by omega) ⟨by simp, by omega⟩ ?_)
  rintro k s rec ⟨rfl, hk⟩
  by_cases g : (k : Int) = y - 1600 - q
  · right
    rw [show (1600 + q + k : Int) = y by omega]
    by_cases g1 : 1901 ≤ y
    · simp (disch := omega) only [fX0_yearOf_L17, i3_lit, i3_le, g1, if_true, ev_some]
    · have h2 : d < cYB (y + 1) c := by grind
      have h3 := cYB_b (y := y + 1) (c := c) (by omega)
      simp (disch := omega) only [fX0_yearOf_L17, i3_lit, i3_le, g1, if_false, i3_add, x0_yearBegins, obs, i3_lt, h2, if_true, ev_some]
  · left
    have h2 := mn (1600 + q + k + 1) y (by omega) (by omega) (by omega)
    have h3 := cYB_b (y := 1600 + q + k + 1) (c := c) (by omega)
    have h4 : ¬ d < cYB (1600 + q + k + 1) c := by omega
    have h5 : ¬ 1901 ≤ 1600 + q + k := by omega
    simp (disch := omega) only [fX0_yearOf_L17, i3_lit, i3_le, h5, if_false, i3_add, x0_yearBegins, obs, i3_lt, h4]
    exact ⟨_, rfl, by omega, by congr 1; omega, by omega⟩
theorem x0_monthOf {d c y m e : Int} (h : cAt d c y m e) (hd : 0 ≤ d ∧ d ≤ 120000) (hc : 0 ≤ c ∧ c ≤ 1) : fX0_monthOf (i3 d) (i3 c) = some (i3 m) := by
  obtain ⟨l1, l2, l3, l4⟩ := cAt_l h
  have l5 : d - cYB y c ≤ 365 := by
    by_cases g : cLg y c
    · rw [if_pos g] at l4; omega
    · rw [if_neg g] at l4; omega
  clear l4
  have hy := h.1.1
  have hm := h.1.2.1
  have hb := cYB_b (y := y) (c := c) (by omega)
  simp (disch := omega) only [fX0_monthOf, x0_yearOf h hd hc, obs, i3_lit, i3_sub, x0_yearBegins]
  refine ev_is (ev_lp0 (fun k s => s = (i3 (d - cYB y c - cMS y c k), i3 (1 + k)) ∧ (k : Int) ≤ m - 1) 12 (by omega) ⟨i3p2 (by show _ = d - cYB y c - 0; omega) (by omega), by omega⟩ ?_)
  rintro k s rec ⟨rfl, hk⟩
  have hk2 := cMS_b y c k
  have hk3 := cML_b y (1 + k) c
  by_cases g : (k : Int) = m - 1
  · right
    have e1 : (m - 1).toNat = k := by omega
    have e2 : m.toNat = k + 1 := by omega
    rw [e1] at l1
    rw [e2] at l2
    have e3 : cMS y c (k + 1) = cMS y c k + cML y (1 + k) c := by
      show _ + cML y (k + 1) c = _
      rw [Int.add_comm 1]
    have e4 : d - cYB y c - cMS y c k < cML y (1 + k) c := by omega
    simp (disch := omega) only [fX0_monthOf_L17, x0_daysOf, obs, i3_lt, e4, if_true, ev_some]
    rw [show (1 + k : Int) = m by omega]
  · left
    have e3 : cMS y c (k + 1) = cMS y c k + cML y (1 + k) c := by
      show _ + cML y (k + 1) c = _
      rw [Int.add_comm 1]
    have e4 := cMS_le y c (k + 1) ((m - 1).toNat - (k + 1))
    rw [show k + 1 + ((m - 1).toNat - (k + 1)) = (m - 1).toNat by omega] at e4
    have e5 : ¬ d - cYB y c - cMS y c k < cML y (1 + k) c := by omega
    simp (disch := omega) only [fX0_monthOf_L17, x0_daysOf, obs, i3_lt, e5, if_false, i3_sub, i3_lit, i3_add]
    refine ⟨_, rfl, by omega, ?_, by omega⟩
    exact i3p2 (by omega) (by omega)
theorem cAt_ex {d c : Int} (hd : 0 ≤ d ∧ d ≤ 110000) (h : cYB 1600 c ≤ d) : ∃ y m e, cAt d c y m e := by
  have hy : ∀ n : Nat, n ≤ 350 → d < cYB (1600 + n) c → ∃ y : Int, 1600 ≤ y ∧ y < 1600 + n ∧ cYB y c ≤ d ∧ d < cYB (y + 1) c := by
    intro n
    induction n with
    | zero => intro _ g; simp at g; omega
    | succ n ih =>
      intro g1 g
      by_cases k : d < cYB (1600 + n) c
      · obtain ⟨y, h1, h2, h3⟩ := ih (by omega) k
        exact ⟨y, h1, by omega, h3⟩
      · refine ⟨1600 + n, by omega, by omega, by omega, ?_⟩
        rw [show (1600 : Int) + n + 1 = 1600 + (n + 1 : Nat) by omega]
        exact g
  obtain ⟨y, y1, y2, y3, y4⟩ := hy 302 (by omega) (by
    have : 110100 ≤ cYB (1600 + (302 : Nat)) c := by unfold cYB; grind
    omega)
  have hs := cYB_s (y := y) (c := c) (by omega)
  have h12 := cMS_12 y c
  have hm : ∀ n : Nat, n ≤ 12 → d - cYB y c < cMS y c n → ∃ k : Nat, k < n ∧ cMS y c k ≤ d - cYB y c ∧ d - cYB y c < cMS y c (k + 1) := by
    intro n
    induction n with
    | zero => intro _ g; have : cMS y c 0 = 0 := rfl; omega
    | succ n ih =>
      intro g1 g
      by_cases k : d - cYB y c < cMS y c n
      · obtain ⟨y, h1, h2⟩ := ih (by omega) k
        exact ⟨y, by omega, h2⟩
      · exact ⟨n, by omega, by omega, g⟩
  obtain ⟨k, k1, k2, k3⟩ := hm 12 (by omega) (by rw [h12]; omega)
  have k4 : cMS y c (k + 1) = cMS y c k + cML y (k + 1) c := rfl
  refine ⟨y, k + 1, d - cYB y c - cMS y c k + 1, ⟨⟨by omega, by omega⟩, ⟨by omega, by omega⟩, by omega, by omega⟩, ?_⟩
  unfold dOf
  rw [show ((k : Int) + 1 - 1).toNat = k by omega]
  omega
theorem x7_findDate {d c y m e : Int} (h : cAt d c y m e) (hd : 0 ≤ d ∧ d ≤ 120000) (hc : 0 ≤ c ∧ c ≤ 1) (σ : Sg) : fX7_findDate (i3 d) (i3 c) σ = some (wi (wi (wi σ 60 5 (i3 y)) 60 6 (i3 m)) 60 7 (i3 e)) := by
  have he := h.2
  unfold dOf at he
  obtain ⟨l1, l2, l3, l4⟩ := cAt_l h
  have hy := h.1.1
  have hm := h.1.2.1
  have hb := cYB_b (y := y) (c := c) (by omega)
  have mono : ∀ (k : Nat) (a : Int), 1600 ≤ a → a + k ≤ 1999 → cYB a c ≤ cYB (a + k) c := by
    intro k
    induction k with
    | zero => intro a _ _; simp
    | succ k ih =>
      intro a h1 h2
      have := ih a h1 (by omega)
      have h3 := cYB_s (y := a + k) (c := c) (by omega)
      rw [show a + ((k + 1 : Nat) : Int) = a + k + 1 by omega, h3]
      grind
  have e0 : (if c = 0 then (10 : Int) else 0) = cYB 1600 c := by
    simp only [cYB]
    grind
  have hb0 := cYB_b (y := 1600) (c := c) (by omega)
  simp (disch := omega) only [fX7_findDate, i3_lit, i3_eq, and_self, and_true, true_and, and_false, false_and, if_true, if_false, not_true_eq_false, not_false_eq_true, ne_eq, true_or, or_true, or_false, false_or, or_self, reduceCtorEq, Nat.reduceEqDiff, Int.reduceEq, Int.reduceLT, Int.reduceLE, Int.reduceAdd, Int.reduceSub, Int.reduceNeg, ↓reduceIte, if_n, i3_ite, e0, i3_sub]
  refine ev_is (ev_lp0 (fun k s => s = (i3 (d - cYB (1600 + k) c), wi σ 60 5 (i3 (1600 + k))) ∧ (k : Int) ≤ y - 1600) 400 (by omega) ⟨by simp, by omega⟩ ?_)
  rintro k s rec ⟨rfl, hk⟩
  have hbk := cYB_b (y := 1600 + k) (c := c) (by omega)
  by_cases g : (k : Int) = y - 1600
  · right
    rw [show (1600 + k : Int) = y by omega]
    have e1 : (if i3 0 = i3 0 then d else d) = d := by simp
    simp (disch := omega) only [fX7_findDate_L20, p_iwi, p_iwl, p_iwr, p_lwi, p_lwl, p_lwr, p_rwi, p_rwl, p_rwr, p_kwi, p_kwl, p_kwr, p_zwi, p_zwl, p_zwr, p_swi, p_swl, p_swr, and_self, and_true, true_and, and_false, false_and, if_true, if_false, not_true_eq_false, not_false_eq_true, ne_eq, true_or, or_true, or_false, false_or, or_self, reduceCtorEq, Nat.reduceEqDiff, Int.reduceEq, Int.reduceLT, Int.reduceLE, Int.reduceAdd, Int.reduceSub, Int.reduceNeg, ↓reduceIte, if_n, i3_ite, x7_isLong, obs, i3_lit, b3_0]
    have e3 : 365 ≤ (if cLg y c then (366 : Int) else 365) ∧ (if cLg y c then (366 : Int) else 365) ≤ 366 := by grind
    generalize (if cLg y c then (366 : Int) else 365) = L at *
    simp (disch := omega) only [i3_lt, l4, if_true]
    refine ev_lp0 (fun k s => s = (i3 (d - cYB y c - cMS y c k), wi (wi σ 60 5 (i3 y)) 60 6 (i3 (1 + k))) ∧ (k : Int) ≤ m - 1) 12 (by omega) ⟨by simp [cMS], by omega⟩ ?_
    rintro k s rec ⟨rfl, hk⟩
    have hk2 := cMS_b y c k
    have hk3 := cML_b y (1 + k) c
    have e3 : cMS y c (k + 1) = cMS y c k + cML y (1 + k) c := by
      show _ + cML y (k + 1) c = _
      rw [Int.add_comm 1]
    by_cases g : (k : Int) = m - 1
    · right
      have e1 : (m - 1).toNat = k := by omega
      have e2 : m.toNat = k + 1 := by omega
      rw [e1] at l1 he
      rw [e2] at l2
      have e4 : d - cYB y c - cMS y c k < cML y (1 + k) c := by omega
      simp (disch := omega) only [fX7_findDate_L85, p_iwi, p_iwl, p_iwr, p_lwi, p_lwl, p_lwr, p_rwi, p_rwl, p_rwr, p_kwi, p_kwl, p_kwr, p_zwi, p_zwl, p_zwr, p_swi, p_swl, p_swr, and_self, and_true, true_and, and_false, false_and, if_true, if_false, not_true_eq_false, not_false_eq_true, ne_eq, true_or, or_true, or_false, false_or, or_self, reduceCtorEq, Nat.reduceEqDiff, Int.reduceEq, Int.reduceLT, Int.reduceLE, Int.reduceAdd, Int.reduceSub, Int.reduceNeg, ↓reduceIte, if_n, i3_ite, i3_lit, x7_monthLong, obs, i3_lt, e4, ev_some, i3_add]
      rw [show (1 + k : Int) = m by omega, show d - cYB y c - cMS y c k + 1 = e by omega]
    · left
      have e4 := cMS_le y c (k + 1) ((m - 1).toNat - (k + 1))
      rw [show k + 1 + ((m - 1).toNat - (k + 1)) = (m - 1).toNat by omega] at e4
      have e5 : ¬ d - cYB y c - cMS y c k < cML y (1 + k) c := by omega
      simp (disch := omega) only [fX7_findDate_L85, p_iwi, p_iwl, p_iwr, p_lwi, p_lwl, p_lwr, p_rwi, p_rwl, p_rwr, p_kwi, p_kwl, p_kwr, p_zwi, p_zwl, p_zwr, p_swi, p_swl, p_swr, and_self, and_true, true_and, and_false, false_and, if_true, if_false, not_true_eq_false, not_false_eq_true, ne_eq, true_or, or_true, or_false, false_or, or_self, reduceCtorEq, Nat.reduceEqDiff, Int.reduceEq, Int.reduceLT, Int.reduceLE, Int.reduceAdd, Int.reduceSub, Int.reduceNeg, ↓reduceIte, if_n, i3_ite, i3_lit, x7_monthLong, obs, i3_lt, e5, i3_sub, i3_add, p_wwi]
      refine ⟨_, rfl, by omega, ?_, by omega⟩
      rw [e3, show d - cYB y c - cMS y c k - cML y (1 + k) c = d - cYB y c - (cMS y c k + cML y (1 + k) c) by omega, show (1 + k + 1 : Int) = 1 + (k + 1 : Nat) by omega]
  · left
    have h2 := mono (y - (1600 + k + 1)).toNat (1600 + k + 1) (by omega) (by omega)
    rw [show (1600 : Int) + k + 1 + ((y - (1600 + k + 1)).toNat : Int) = y by omega] at h2
    have h3 := cYB_s (y := 1600 + k) (c := c) (by omega)
    have e3 : 365 ≤ (if cLg (1600 + k) c then (366 : Int) else 365) ∧ (if cLg (1600 + k) c then (366 : Int) else 365) ≤ 366 := by grind
    simp (disch := omega) only [fX7_findDate_L20, p_iwi, p_iwl, p_iwr, p_lwi, p_lwl, p_lwr, p_rwi, p_rwl, p_rwr, p_kwi, p_kwl, p_kwr, p_zwi, p_zwl, p_zwr, p_swi, p_swl, p_swr, and_self, and_true, true_and, and_false, false_and, if_true, if_false, not_true_eq_false, not_false_eq_true, ne_eq, true_or, or_true, or_false, false_or, or_self, reduceCtorEq, Nat.reduceEqDiff, Int.reduceEq, Int.reduceLT, Int.reduceLE, Int.reduceAdd, Int.reduceSub, Int.reduceNeg, ↓reduceIte, if_n, i3_ite, x7_isLong, obs, i3_lit, b3_0]
    generalize (if cLg (1600 + k) c then (366 : Int) else 365) = L at *
    have h5 : ¬ d - cYB (1600 + k) c < L := by omega
    simp (disch := omega) only [i3_lt, h5, if_false, i3_sub, i3_add, p_wwi]
    refine ⟨_, rfl, by omega, ?_, by omega⟩
    rw [show (1600 : Int) + (k + 1 : Nat) = 1600 + k + 1 by omega, h3, show d - cYB (1600 + k) c - L = d - (cYB (1600 + k) c + L) by omega]
/-! the operations day and date -/
theorem x0_day {y m e c : Int} (hy : -2147483648 ≤ y ∧ y < 2147483648) (hm : -2147483648 ≤ m ∧ m < 2147483648) (he : -2147483648 ≤ e ∧ e < 2147483648) (hc : -2147483648 ≤ c ∧ c < 2147483648) : fX0_day (i3 y) (i3 m) (i3 e) (i3 c) = some (i3 (if (0 ≤ c ∧ c ≤ 1) ∧ cDt y m e c ∧ cDay (dOf y m e c) then dOf y m e c else -1)) := by
  simp (disch := omega) only [fX0_day, i3_lit, x0_in, obs, b3_0, i3_neg]
  by_cases h1 : 0 ≤ c ∧ c ≤ 1
  · simp (disch := omega) only [h1, and_self, and_true, true_and, and_false, false_and, if_true, if_false, not_true_eq_false, not_false_eq_true, ne_eq, true_or, or_true, or_false, false_or, or_self, reduceCtorEq, Nat.reduceEqDiff, Int.reduceEq, Int.reduceLT, Int.reduceLE, Int.reduceAdd, Int.reduceSub, Int.reduceNeg, ↓reduceIte, if_n, i3_ite, x0_isDate, obs, b3_0]
    by_cases h2 : cDt y m e c
    · have hb := cYB_b (y := y) (c := c) (by omega)
      have hk2 := cMS_b y c (m - 1).toNat
      have hk3 := cML_b y m c
      have hd : 0 ≤ dOf y m e c ∧ dOf y m e c < 2000000 := by unfold dOf; omega
      simp (disch := omega) only [h2, and_self, and_true, true_and, and_false, false_and, if_true, if_false, not_true_eq_false, not_false_eq_true, ne_eq, true_or, or_true, or_false, false_or, or_self, reduceCtorEq, Nat.reduceEqDiff, Int.reduceEq, Int.reduceLT, Int.reduceLE, Int.reduceAdd, Int.reduceSub, Int.reduceNeg, ↓reduceIte, if_n, i3_ite, x0_dayAt, obs, x0_isDay, b3_0]
      grind
    · simp (disch := omega) only [h2, and_self, and_true, true_and, and_false, false_and, if_true, if_false, not_true_eq_false, not_false_eq_true, ne_eq, true_or, or_true, or_false, false_or, or_self, reduceCtorEq, Nat.reduceEqDiff, Int.reduceEq, Int.reduceLT, Int.reduceLE, Int.reduceAdd, Int.reduceSub, Int.reduceNeg, ↓reduceIte, if_n, i3_ite]
  · simp (disch := omega) only [h1, and_self, and_true, true_and, and_false, false_and, if_true, if_false, not_true_eq_false, not_false_eq_true, ne_eq, true_or, or_true, or_false, false_or, or_self, reduceCtorEq, Nat.reduceEqDiff, Int.reduceEq, Int.reduceLT, Int.reduceLE, Int.reduceAdd, Int.reduceSub, Int.reduceNeg, ↓reduceIte, if_n, i3_ite]
theorem x7_day {y m e c : Int} (hy : -2147483648 ≤ y ∧ y < 2147483648) (hm : -2147483648 ≤ m ∧ m < 2147483648) (he : -2147483648 ≤ e ∧ e < 2147483648) (hc : -2147483648 ≤ c ∧ c < 2147483648) (σ : Sg) : fX7_day (i3 y) (i3 m) (i3 e) (i3 c) σ = some (i3 (if (0 ≤ c ∧ c ≤ 1) ∧ cDt y m e c ∧ cDay (dOf y m e c) then dOf y m e c else -1), wi σ 60 0 (i3 0)) := by
  simp (disch := omega) only [fX7_day, i3_lit, i6_lit, i3_l, x7_in, obs, b3_0, i3_neg]
  by_cases h1 : 0 ≤ c ∧ c ≤ 1
  · simp (disch := omega) only [h1, and_self, and_true, true_and, and_false, false_and, if_true, if_false, not_true_eq_false, not_false_eq_true, ne_eq, true_or, or_true, or_false, false_or, or_self, reduceCtorEq, Nat.reduceEqDiff, Int.reduceEq, Int.reduceLT, Int.reduceLE, Int.reduceAdd, Int.reduceSub, Int.reduceNeg, ↓reduceIte, if_n, i3_ite, x7_isDate, obs, b3_0]
    by_cases h2 : cDt y m e c
    · have hb := cYB_b (y := y) (c := c) (by omega)
      have hk2 := cMS_b y c (m - 1).toNat
      have hk3 := cML_b y m c
      have hd : 0 ≤ dOf y m e c ∧ dOf y m e c < 2000000 := by unfold dOf; omega
      simp (disch := omega) only [h2, and_self, and_true, true_and, and_false, false_and, if_true, if_false, not_true_eq_false, not_false_eq_true, ne_eq, true_or, or_true, or_false, false_or, or_self, reduceCtorEq, Nat.reduceEqDiff, Int.reduceEq, Int.reduceLT, Int.reduceLE, Int.reduceAdd, Int.reduceSub, Int.reduceNeg, ↓reduceIte, if_n, i3_ite, x7_dayOf, obs, x7_isDay, b3_0]
      grind
    · simp (disch := omega) only [h2, and_self, and_true, true_and, and_false, false_and, if_true, if_false, not_true_eq_false, not_false_eq_true, ne_eq, true_or, or_true, or_false, false_or, or_self, reduceCtorEq, Nat.reduceEqDiff, Int.reduceEq, Int.reduceLT, Int.reduceLE, Int.reduceAdd, Int.reduceSub, Int.reduceNeg, ↓reduceIte, if_n, i3_ite]
  · simp (disch := omega) only [h1, and_self, and_true, true_and, and_false, false_and, if_true, if_false, not_true_eq_false, not_false_eq_true, ne_eq, true_or, or_true, or_false, false_or, or_self, reduceCtorEq, Nat.reduceEqDiff, Int.reduceEq, Int.reduceLT, Int.reduceLE, Int.reduceAdd, Int.reduceSub, Int.reduceNeg, ↓reduceIte, if_n, i3_ite]
theorem cAt_d {d c y m e : Int} (h : cAt d c y m e) (hc : 0 ≤ c ∧ c ≤ 1) : d = dOf y m 1 c + e - 1 ∧ 0 ≤ d := by
  have h1 := h.2
  have hb := cYB_b (y := y) (c := c) (by have := h.1; omega)
  have hk2 := cMS_b y c (m - 1).toNat
  have := h.1.2.2
  have hy := h.1.1
  unfold dOf at *
  omega
theorem x0_date {d c : Int} (hd : -2147483648 ≤ d ∧ d < 2147483648) (hc : -2147483648 ≤ c ∧ c < 2147483648) (σ : Sg) : ∃ v : Int, fX0_date (i3 d) (i3 c) = some (i3 v) ∧ ∃ σ', fX7_date (i3 d) (i3 c) σ = some (i3 v, σ') ∧ (σ' = wi σ 60 0 0 ∨ ∃ a b e, σ' = wi (wi (wi (wi σ 60 0 0) 60 5 (i3 a)) 60 6 (i3 b)) 60 7 (i3 e)) := by
  simp (disch := omega) only [fX0_date, fX7_date, i3_lit, i6_lit, i3_l, x0_in, x7_in, x0_isDay, x7_isDay, obs, b3_0, i3_neg]
  by_cases h0 : cDay d
  · by_cases h1 : 0 ≤ c ∧ c ≤ 1
    · have e0 : cYB 1600 c = if c = 0 then 10 else 0 := by simp only [cYB]; grind
      simp (disch := omega) only [eq_true h0, eq_true h1, and_self, and_true, true_and, and_false, false_and, if_true, if_false, not_true_eq_false, not_false_eq_true, ne_eq, true_or, or_true, or_false, false_or, or_self, reduceCtorEq, Nat.reduceEqDiff, Int.reduceEq, Int.reduceLT, Int.reduceLE, Int.reduceAdd, Int.reduceSub, Int.reduceNeg, ↓reduceIte, if_n, i3_ite, x0_yearBegins, obs, i3_le, i3_eq]
      have main : cYB 1600 c ≤ d → ∃ v : Int, ((fX0_yearOf (i3 d) (i3 c)).bind fun q10 => (fX0_monthOf (i3 d) (i3 c)).bind fun q12 => (fX0_dayAt q10 q12 (i3 1) (i3 c)).bind fun q14 => some (i3 10000 * q10 + i3 100 * q12 + i3 d - q14 + i3 1)) = some (i3 v) ∧ ∃ σ', fX7_date_J34 (i3 d) (i3 c) (wi σ 60 0 (i3 0)) = some (i3 v, σ') ∧ (σ' = wi σ 60 0 (i3 0) ∨ ∃ a b e, σ' = wi (wi (wi (wi σ 60 0 (i3 0)) 60 5 (i3 a)) 60 6 (i3 b)) 60 7 (i3 e)) := by
        intro g
        obtain ⟨y, m, e, h⟩ := cAt_ex (d := d) (c := c) (by omega) g
        have := cAt_d h h1
        have h2 := h.1
        simp (disch := omega) only [fX7_date_J34, x0_yearOf h (by omega) h1, x0_monthOf h (by omega) h1, x7_findDate h (by omega) h1, obs, x0_dayAt, p_iwi, p_iwl, p_iwr, p_lwi, p_lwl, p_lwr, p_rwi, p_rwl, p_rwr, p_kwi, p_kwl, p_kwr, p_zwi, p_zwl, p_zwr, p_swi, p_swl, p_swr, and_self, and_true, true_and, and_false, false_and, if_true, if_false, not_true_eq_false, not_false_eq_true, ne_eq, true_or, or_true, or_false, false_or, or_self, reduceCtorEq, Nat.reduceEqDiff, Int.reduceEq, Int.reduceLT, Int.reduceLE, Int.reduceAdd, Int.reduceSub, Int.reduceNeg, ↓reduceIte, if_n, i3_ite, i3_lit, i3_add, i3_sub, i3_mul, i3_neg]
        refine ⟨_, rfl, _, ?_, Or.inr ⟨y, m, e, rfl⟩⟩
        rw [show y * 10000 + m * 100 + e = 10000 * y + 100 * m + d - dOf y m 1 c + 1 by omega]
      by_cases h2 : c = 0
      · rw [if_pos h2] at e0
        simp only [h2, if_true] at *
        by_cases h3 : 10 ≤ d
        · simp (disch := omega) only [e0, h3, i3_le, if_true]
          have h4 := main (by omega)
          exact h4
        · simp (disch := omega) only [e0, h3, i3_le, if_false]
          exact ⟨_, rfl, _, rfl, Or.inl rfl⟩
      · rw [if_neg h2] at e0
        simp only [h2, if_false] at *
        rw [e0, if_pos h0.1]
        exact main (by omega)
    · simp (disch := omega) only [eq_true h0, eq_false h1, and_self, and_true, true_and, and_false, false_and, if_true, if_false, not_true_eq_false, not_false_eq_true, ne_eq, true_or, or_true, or_false, false_or, or_self, reduceCtorEq, Nat.reduceEqDiff, Int.reduceEq, Int.reduceLT, Int.reduceLE, Int.reduceAdd, Int.reduceSub, Int.reduceNeg, ↓reduceIte, if_n, i3_ite]
      exact ⟨_, rfl, _, rfl, Or.inl rfl⟩
  · simp (disch := omega) only [eq_false h0, and_self, and_true, true_and, and_false, false_and, if_true, if_false, not_true_eq_false, not_false_eq_true, ne_eq, true_or, or_true, or_false, false_or, or_self, reduceCtorEq, Nat.reduceEqDiff, Int.reduceEq, Int.reduceLT, Int.reduceLE, Int.reduceAdd, Int.reduceSub, Int.reduceNeg, ↓reduceIte, if_n, i3_ite]
    exact ⟨_, rfl, _, rfl, Or.inl rfl⟩
