set_option maxRecDepth 100000
/-! OldWeatherModel.led(IIII)I -/
def fX7_led (x1 : Int32) (x2 : Int32) (x3 : Int32) (x4 : Int32) (σ : Sg) : Option (Int32 × Sg) :=
  (fX7_isPlace x1 (wi σ 60 0 0)).bind fun q1 => if q1 = 0 then some ((-1), (wi σ 60 0 0)) else (fX7_isDay x2).bind fun q4 => if q4 = 0 then some ((-1), (wi σ 60 0 0)) else (fX7_isKnown x3).bind fun q7 => if q7 ≠ 0 then (fX7_knowBy x3 (wi σ 60 0 0)).bind fun q10 => (fX7_noShifts  q10).bind fun q12 => (fX7_join x1 x2 q12).bind fun q14 => (fX7_in x4.toInt64 0 ((gi q14 60 55).toInt64 - 1)).bind fun q16 => if q16 = 0 then some ((-1), q14) else if inb x4 200 then some ((gi q14 82 x4.toNatClampNeg), q14) else none else some ((-1), (wi σ 60 0 0))
set_option maxHeartbeats 1500000 in
theorem fX7_led_ok (x1 : Int32) (x2 : Int32) (x3 : Int32) (x4 : Int32) (σ : Sg) (r : (Int32 × Sg)) (hf : fX7_led x1 x2 x3 x4 σ = some r) : Cl true 12 12147 [.ref 60, .int x1, .int x2, .int x3, .int x4] σ (.inl (some (.int (r).1)), (r).2) := by
  refine ⟨iX7_led, rfl, Nat.le_of_ble_eq_true rfl, Nat.le_of_ble_eq_true rfl, ?_⟩
  show Go true 12 iX7_led (0, [some (.ref 60), some (.int x1), some (.int x2), some (.int x3), some (.int x4)], [], σ) (.inl (some (.int (r).1)), (r).2)
  unfold fX7_led at hf
  refine go_n 5 (f := (7, [some (.ref 60), some (.int x1), some (.int x2), some (.int x3), some (.int x4)], [.int x1, .ref 60], (wi σ 60 0 0))) rfl ?_
  obtain ⟨q1, h2, hf⟩ := bnd hf
  refine go_c (mid := 12048) (args := [.ref 60, .int x1]) (pc := 10) (L := [some (.ref 60), some (.int x1), some (.int x2), some (.int x3), some (.int x4)]) (st := []) (σ := (wi σ 60 0 0)) rfl ((fX7_isPlace_ok _ _ q1 h2).deep (Nat.le_of_ble_eq_true rfl)) ?_
  by_cases h3 : q1 = 0
  · rw [if_pos h3] at hf
    refine go_it (t := 27) (f := 13) (L1 := [some (.ref 60), some (.int x1), some (.int x2), some (.int x3), some (.int x4)]) (st1 := []) (σ1 := (wi σ 60 0 0)) rfl h3 ?_
    refine go_e (L1 := [none, none, none, none, none]) rfl rfl ?_
    refine go_n 1 (f := (28, [none, none, none, none, none], [.int (-1)], (wi σ 60 0 0))) rfl ?_
    cases hf
    exact go_r rfl
  · rw [if_neg h3] at hf
    refine go_if (t := 27) (f := 13) (L1 := [some (.ref 60), some (.int x1), some (.int x2), some (.int x3), some (.int x4)]) (st1 := []) (σ1 := (wi σ 60 0 0)) rfl h3 ?_
    refine go_n 1 (f := (14, [some (.ref 60), some (.int x1), some (.int x2), some (.int x3), some (.int x4)], [.int x2], (wi σ 60 0 0))) rfl ?_
    obtain ⟨q4, h5, hf⟩ := bnd hf
    refine go_c (mid := 12042) (args := [.int x2]) (pc := 17) (L := [some (.ref 60), some (.int x1), some (.int x2), some (.int x3), some (.int x4)]) (st := []) (σ := (wi σ 60 0 0)) rfl ((fX7_isDay_ok _ _ q4 h5).deep (Nat.le_of_ble_eq_true rfl)) ?_
    by_cases h6 : q4 = 0
    · rw [if_pos h6] at hf
      refine go_it (t := 27) (f := 20) (L1 := [some (.ref 60), some (.int x1), some (.int x2), some (.int x3), some (.int x4)]) (st1 := []) (σ1 := (wi σ 60 0 0)) rfl h6 ?_
      refine go_e (L1 := [none, none, none, none, none]) rfl rfl ?_
      refine go_n 1 (f := (28, [none, none, none, none, none], [.int (-1)], (wi σ 60 0 0))) rfl ?_
      cases hf
      exact go_r rfl
    · rw [if_neg h6] at hf
      refine go_if (t := 27) (f := 20) (L1 := [some (.ref 60), some (.int x1), some (.int x2), some (.int x3), some (.int x4)]) (st1 := []) (σ1 := (wi σ 60 0 0)) rfl h6 ?_
      refine go_n 1 (f := (21, [some (.ref 60), some (.int x1), some (.int x2), some (.int x3), some (.int x4)], [.int x3], (wi σ 60 0 0))) rfl ?_
      obtain ⟨q7, h8, hf⟩ := bnd hf
      refine go_c (mid := 12057) (args := [.int x3]) (pc := 24) (L := [some (.ref 60), some (.int x1), some (.int x2), some (.int x3), some (.int x4)]) (st := []) (σ := (wi σ 60 0 0)) rfl ((fX7_isKnown_ok _ _ q7 h8).deep (Nat.le_of_ble_eq_true rfl)) ?_
      by_cases h9 : q7 ≠ 0
      · rw [if_pos h9] at hf
        refine go_it (t := 29) (f := 27) (L1 := [some (.ref 60), some (.int x1), some (.int x2), some (.int x3), some (.int x4)]) (st1 := []) (σ1 := (wi σ 60 0 0)) rfl h9 ?_
        refine go_n 2 (f := (31, [some (.ref 60), some (.int x1), some (.int x2), some (.int x3), some (.int x4)], [.int x3, .ref 60], (wi σ 60 0 0))) rfl ?_
        obtain ⟨q10, h11, hf⟩ := bnd hf
        refine go_c (mid := 12107) (args := [.ref 60, .int x3]) (pc := 34) (L := [some (.ref 60), some (.int x1), some (.int x2), some (.int x3), some (.int x4)]) (st := []) (σ := (wi σ 60 0 0)) rfl ((fX7_knowBy_ok _ _ q10 h11).deep (Nat.le_of_ble_eq_true rfl)) ?_
        refine go_n 1 (f := (35, [some (.ref 60), some (.int x1), some (.int x2), some (.int x3), some (.int x4)], [.ref 60], q10)) rfl ?_
        obtain ⟨q12, h13, hf⟩ := bnd hf
        refine go_c (mid := 12141) (args := [.ref 60]) (pc := 38) (L := [some (.ref 60), some (.int x1), some (.int x2), some (.int x3), some (.int x4)]) (st := []) (σ := q10) rfl ((fX7_noShifts_ok _ q12 h13).deep (Nat.le_of_ble_eq_true rfl)) ?_
        refine go_n 3 (f := (41, [some (.ref 60), some (.int x1), some (.int x2), some (.int x3), some (.int x4)], [.int x2, .int x1, .ref 60], q12)) rfl ?_
        obtain ⟨q14, h15, hf⟩ := bnd hf
        refine go_c (mid := 12142) (args := [.ref 60, .int x1, .int x2]) (pc := 44) (L := [some (.ref 60), some (.int x1), some (.int x2), some (.int x3), some (.int x4)]) (st := []) (σ := q12) rfl ((fX7_join_ok _ _ _ q14 h15).deep (Nat.le_of_ble_eq_true rfl)) ?_
        refine go_n 8 (f := (55, [some (.ref 60), some (.int x1), some (.int x2), some (.int x3), some (.int x4)], [.long ((gi q14 60 55).toInt64 - 1), .long 0, .long x4.toInt64], q14)) rfl ?_
        obtain ⟨q16, h17, hf⟩ := bnd hf
        refine go_c (mid := 12034) (args := [.long x4.toInt64, .long 0, .long ((gi q14 60 55).toInt64 - 1)]) (pc := 58) (L := [some (.ref 60), some (.int x1), some (.int x2), some (.int x3), some (.int x4)]) (st := []) (σ := q14) rfl ((fX7_in_ok _ _ _ _ q16 h17).deep (Nat.le_of_ble_eq_true rfl)) ?_
        by_cases h18 : q16 = 0
        · rw [if_pos h18] at hf
          refine go_it (t := 71) (f := 61) (L1 := [some (.ref 60), some (.int x1), some (.int x2), some (.int x3), some (.int x4)]) (st1 := []) (σ1 := q14) rfl h18 ?_
          refine go_n 1 (f := (72, [some (.ref 60), some (.int x1), some (.int x2), some (.int x3), some (.int x4)], [.int (-1)], q14)) rfl ?_
          refine go_e (L1 := [none, none, none, none, none]) rfl rfl ?_
          cases hf
          exact go_r rfl
        · rw [if_neg h18] at hf
          refine go_if (t := 71) (f := 61) (L1 := [some (.ref 60), some (.int x1), some (.int x2), some (.int x3), some (.int x4)]) (st1 := []) (σ1 := q14) rfl h18 ?_
          refine go_n 3 (f := (67, [some (.ref 60), some (.int x1), some (.int x2), some (.int x3), some (.int x4)], [.int x4, .ref 82], q14)) rfl ?_
          obtain ⟨h19, hf⟩ := grd hf
          refine go_iald rfl rfl rfl h19 ?_
          refine go_n 1 (f := (72, [some (.ref 60), some (.int x1), some (.int x2), some (.int x3), some (.int x4)], [.int (gi q14 82 x4.toNatClampNeg)], q14)) rfl ?_
          refine go_e (L1 := [none, none, none, none, none]) rfl rfl ?_
          cases hf
          exact go_r rfl
      · rw [if_neg h9] at hf
        refine go_if (t := 29) (f := 27) (L1 := [some (.ref 60), some (.int x1), some (.int x2), some (.int x3), some (.int x4)]) (st1 := []) (σ1 := (wi σ 60 0 0)) rfl h9 ?_
        refine go_e (L1 := [none, none, none, none, none]) rfl rfl ?_
        refine go_n 1 (f := (28, [none, none, none, none, none], [.int (-1)], (wi σ 60 0 0))) rfl ?_
        cases hf
        exact go_r rfl
/-! OldWeatherModel.left(IIIII)I -/
def fX7_left_J217 (x1 : Int32) (x2 : Int32) (x3 : Int32) (x5 : Int32) (x6 : Int32) (x7 : Int32) (x8 : Int32) (rec85 : (Int32 × Int32 × Int32 × Sg) → Option (Int32 × Sg)) (σ : Sg) : Option (Int32 × Sg) :=
  rec85 (x6, x7, (x8 + 1), σ)
set_option maxHeartbeats 1500000 in
theorem fX7_left_J217_ok (x1 : Int32) (x2 : Int32) (x3 : Int32) (x5 : Int32) (x6 : Int32) (x7 : Int32) (x8 : Int32) (rec85 : (Int32 × Int32 × Int32 × Sg) → Option (Int32 × Sg)) (σ : Sg) (hrec85 : ∀ (y6 : Int32) (y7 : Int32) (y8 : Int32) (τ : Sg) (r : (Int32 × Sg)), rec85 (y6, y7, y8, τ) = some r → Go true 12 iX7_left (85, [some (.ref 60), some (.int x1), some (.int x2), some (.int x3), none, some (.int x5), some (.int y6), some (.int y7), some (.int y8), none, none], [], τ) (.inl (some (.int (r).1)), (r).2)) (r : (Int32 × Sg)) (hf : fX7_left_J217 x1 x2 x3 x5 x6 x7 x8 rec85 σ = some r) : Go true 12 iX7_left (217, [some (.ref 60), some (.int x1), some (.int x2), some (.int x3), none, some (.int x5), some (.int x6), some (.int x7), some (.int x8), none, none], [], σ) (.inl (some (.int (r).1)), (r).2) := by
  unfold fX7_left_J217 at hf
  refine go_n 2 (f := (85, [some (.ref 60), some (.int x1), some (.int x2), some (.int x3), none, some (.int x5), some (.int x6), some (.int x7), some (.int (x8 + 1)), none, none], [], σ)) rfl ?_
  exact hrec85 _ _ _ _ _ hf
def fX7_left_L85 (x1 : Int32) (x2 : Int32) (x3 : Int32) (x5 : Int32)  (rec85 : (Int32 × Int32 × Int32 × Sg) → Option (Int32 × Sg)) (s : Int32 × Int32 × Int32 × Sg) : Option (Int32 × Sg) :=
  match s with
  | (x6, x7, x8, σ) => if (gi σ 61 2) ≤ x8 then ((fun (z23 : Int32) => some (z23, σ)) (if x5 ≠ 0 then x6 else x7)) else if inb x8 200 then (fX7_at x8 σ).bind fun q26 => if q26 ≠ x1 then fX7_left_J217 x1 x2 x3 x5 x6 x7 x8 rec85 σ else if inb x8 200 then if (gi σ 65 x8.toNatClampNeg) ≠ 1 then fX7_left_J217 x1 x2 x3 x5 x6 x7 x8 rec85 σ else (fX7_in (gi σ 64 x8.toNatClampNeg).toInt64 x2.toInt64 x3.toInt64).bind fun q31 => if q31 = 0 then fX7_left_J217 x1 x2 x3 x5 x6 x7 x8 rec85 σ else (fX7_doesCount x8 σ).bind fun q34 => if q34.1 = 0 then fX7_left_J217 x1 x2 x3 x5 x6 x7 x8 rec85 q34.2 else (fX7_findBounds x8 (gi σ 64 x8.toNatClampNeg) q34.2).bind fun q37 => if q37.1 = 0 then fX7_left_J217 x1 x2 x3 x5 x6 x7 x8 rec85 q37.2 else (fX7_floor ((gi q37.2 60 41).toInt64 + (gi q37.2 60 42).toInt64) 2).bind fun q40 => (fX7_join x1 (gi σ 64 x8.toNatClampNeg) q37.2).bind fun q42 => (fX7_in q40.toInt64 (gi q42 60 56).toInt64 (gi q42 60 57).toInt64).bind fun q44 => ((fun (z47 : Int32) => fX7_left_J217 x1 x2 x3 x5 (x6 + 1) (x7 + z47) x8 rec85 q42) ((if q44 = 0 then 0 else 1) : Int32)) else none else none
set_option maxHeartbeats 1500000 in
theorem fX7_left_L85_ok (x1 : Int32) (x2 : Int32) (x3 : Int32) (x5 : Int32)   : ∀ (n : Nat) (x6 : Int32) (x7 : Int32) (x8 : Int32) (σ : Sg) (r : (Int32 × Sg)), lp (fX7_left_L85 x1 x2 x3 x5 ) n (x6, x7, x8, σ) = some r → Go true 12 iX7_left (85, [some (.ref 60), some (.int x1), some (.int x2), some (.int x3), none, some (.int x5), some (.int x6), some (.int x7), some (.int x8), none, none], [], σ) (.inl (some (.int (r).1)), (r).2) := by
  intro n
  induction n with
  | zero => intro x6 x7 x8 σ r hf; cases hf
  | succ n ih =>
    intro x6 x7 x8 σ r hf
    have hf : fX7_left_L85 x1 x2 x3 x5  (lp (fX7_left_L85 x1 x2 x3 x5 ) n) (x6, x7, x8, σ) = some r := hf
    have hrec85 := ih
    generalize lp (fX7_left_L85 x1 x2 x3 x5 ) n = rec85 at hf hrec85
    unfold fX7_left_L85 at hf
    dsimp only at hf
    refine go_n 5 (f := (93, [some (.ref 60), some (.int x1), some (.int x2), some (.int x3), none, some (.int x5), some (.int x6), some (.int x7), some (.int x8), none, none], [.int (gi σ 61 2), .int x8], σ)) rfl ?_
    by_cases h21 : (gi σ 61 2) ≤ x8
    · rw [if_pos h21] at hf
      refine go_it (t := 223) (f := 96) (L1 := [some (.ref 60), some (.int x1), some (.int x2), some (.int x3), none, some (.int x5), some (.int x6), some (.int x7), some (.int x8), none, none]) (st1 := []) (σ1 := σ) rfl h21 ?_
      refine go_n 1 (f := (225, [some (.ref 60), some (.int x1), some (.int x2), some (.int x3), none, some (.int x5), some (.int x6), some (.int x7), some (.int x8), none, none], [.int x5], σ)) rfl ?_
      refine go_m (f := (235, [none, none, none, none, none, none, none, none, none, none, none], [.int (if x5 ≠ 0 then x6 else x7)], σ)) ?_ (fun hJ24 => ?_)
      · generalize hz23 : (if x5 ≠ 0 then x6 else x7) = z23 at hf ⊢
        try dsimp only at hf
        cases hf
        exact go_r rfl
      · by_cases h22 : x5 ≠ 0
        · refine go_it (t := 233) (f := 228) (L1 := [some (.ref 60), some (.int x1), some (.int x2), some (.int x3), none, some (.int x5), some (.int x6), some (.int x7), some (.int x8), none, none]) (st1 := []) (σ1 := σ) rfl h22 ?_
          refine go_n 1 (f := (235, [some (.ref 60), some (.int x1), some (.int x2), some (.int x3), none, some (.int x5), some (.int x6), some (.int x7), some (.int x8), none, none], [.int x6], σ)) rfl ?_
          refine go_e (L1 := [none, none, none, none, none, none, none, none, none, none, none]) rfl rfl ?_
          simp only [if_pos h22] at hJ24
          first | exact hJ24 | (simp only [if_pos h22]; exact hJ24)
        · refine go_if (t := 233) (f := 228) (L1 := [some (.ref 60), some (.int x1), some (.int x2), some (.int x3), none, some (.int x5), some (.int x6), some (.int x7), some (.int x8), none, none]) (st1 := []) (σ1 := σ) rfl h22 ?_
          refine go_n 2 (f := (235, [some (.ref 60), some (.int x1), some (.int x2), some (.int x3), none, some (.int x5), some (.int x6), some (.int x7), some (.int x8), none, none], [.int x7], σ)) rfl ?_
          refine go_e (L1 := [none, none, none, none, none, none, none, none, none, none, none]) rfl rfl ?_
          simp only [if_neg h22] at hJ24
          first | exact hJ24 | (simp only [if_neg h22]; exact hJ24)
    · rw [if_neg h21] at hf
      refine go_if (t := 223) (f := 96) (L1 := [some (.ref 60), some (.int x1), some (.int x2), some (.int x3), none, some (.int x5), some (.int x6), some (.int x7), some (.int x8), none, none]) (st1 := []) (σ1 := σ) rfl h21 ?_
      refine go_n 3 (f := (102, [some (.ref 60), some (.int x1), some (.int x2), some (.int x3), none, some (.int x5), some (.int x6), some (.int x7), some (.int x8), none, none], [.int x8, .ref 64], σ)) rfl ?_
      obtain ⟨h25, hf⟩ := grd hf
      refine go_iald rfl rfl rfl h25 ?_
      refine go_n 3 (f := (108, [some (.ref 60), some (.int x1), some (.int x2), some (.int x3), none, some (.int x5), some (.int x6), some (.int x7), some (.int x8), some (.int (gi σ 64 x8.toNatClampNeg)), none], [.int x8, .ref 60], σ)) rfl ?_
      obtain ⟨q26, h27, hf⟩ := bnd hf
      refine go_c (mid := 12132) (args := [.ref 60, .int x8]) (pc := 111) (L := [some (.ref 60), some (.int x1), some (.int x2), some (.int x3), none, some (.int x5), some (.int x6), some (.int x7), some (.int x8), some (.int (gi σ 64 x8.toNatClampNeg)), none]) (st := []) (σ := σ) rfl ((fX7_at_ok _ _ q26 h27).deep (Nat.le_of_ble_eq_true rfl)) ?_
      refine go_n 1 (f := (112, [some (.ref 60), some (.int x1), some (.int x2), some (.int x3), none, some (.int x5), some (.int x6), some (.int x7), some (.int x8), some (.int (gi σ 64 x8.toNatClampNeg)), none], [.int x1, .int q26], σ)) rfl ?_
      by_cases h28 : q26 ≠ x1
      · rw [if_pos h28] at hf
        refine go_it (t := 217) (f := 115) (L1 := [some (.ref 60), some (.int x1), some (.int x2), some (.int x3), none, some (.int x5), some (.int x6), some (.int x7), some (.int x8), some (.int (gi σ 64 x8.toNatClampNeg)), none]) (st1 := []) (σ1 := σ) rfl h28 ?_
        refine go_e (L1 := [some (.ref 60), some (.int x1), some (.int x2), some (.int x3), none, some (.int x5), some (.int x6), some (.int x7), some (.int x8), none, none]) rfl rfl ?_
        exact fX7_left_J217_ok _ _ _ _ _ _ _ _ _ hrec85 _ hf
      · rw [if_neg h28] at hf
        refine go_if (t := 217) (f := 115) (L1 := [some (.ref 60), some (.int x1), some (.int x2), some (.int x3), none, some (.int x5), some (.int x6), some (.int x7), some (.int x8), some (.int (gi σ 64 x8.toNatClampNeg)), none]) (st1 := []) (σ1 := σ) rfl h28 ?_
        refine go_n 3 (f := (121, [some (.ref 60), some (.int x1), some (.int x2), some (.int x3), none, some (.int x5), some (.int x6), some (.int x7), some (.int x8), some (.int (gi σ 64 x8.toNatClampNeg)), none], [.int x8, .ref 65], σ)) rfl ?_
        obtain ⟨h29, hf⟩ := grd hf
        refine go_iald rfl rfl rfl h29 ?_
        refine go_n 1 (f := (123, [some (.ref 60), some (.int x1), some (.int x2), some (.int x3), none, some (.int x5), some (.int x6), some (.int x7), some (.int x8), some (.int (gi σ 64 x8.toNatClampNeg)), none], [.int 1, .int (gi σ 65 x8.toNatClampNeg)], σ)) rfl ?_
        by_cases h30 : (gi σ 65 x8.toNatClampNeg) ≠ 1
        · rw [if_pos h30] at hf
          refine go_it (t := 217) (f := 126) (L1 := [some (.ref 60), some (.int x1), some (.int x2), some (.int x3), none, some (.int x5), some (.int x6), some (.int x7), some (.int x8), some (.int (gi σ 64 x8.toNatClampNeg)), none]) (st1 := []) (σ1 := σ) rfl h30 ?_
          refine go_e (L1 := [some (.ref 60), some (.int x1), some (.int x2), some (.int x3), none, some (.int x5), some (.int x6), some (.int x7), some (.int x8), none, none]) rfl rfl ?_
          exact fX7_left_J217_ok _ _ _ _ _ _ _ _ _ hrec85 _ hf
        · rw [if_neg h30] at hf
          refine go_if (t := 217) (f := 126) (L1 := [some (.ref 60), some (.int x1), some (.int x2), some (.int x3), none, some (.int x5), some (.int x6), some (.int x7), some (.int x8), some (.int (gi σ 64 x8.toNatClampNeg)), none]) (st1 := []) (σ1 := σ) rfl h30 ?_
          refine go_n 6 (f := (133, [some (.ref 60), some (.int x1), some (.int x2), some (.int x3), none, some (.int x5), some (.int x6), some (.int x7), some (.int x8), some (.int (gi σ 64 x8.toNatClampNeg)), none], [.long x3.toInt64, .long x2.toInt64, .long (gi σ 64 x8.toNatClampNeg).toInt64], σ)) rfl ?_
          obtain ⟨q31, h32, hf⟩ := bnd hf
          refine go_c (mid := 12034) (args := [.long (gi σ 64 x8.toNatClampNeg).toInt64, .long x2.toInt64, .long x3.toInt64]) (pc := 136) (L := [some (.ref 60), some (.int x1), some (.int x2), some (.int x3), none, some (.int x5), some (.int x6), some (.int x7), some (.int x8), some (.int (gi σ 64 x8.toNatClampNeg)), none]) (st := []) (σ := σ) rfl ((fX7_in_ok _ _ _ _ q31 h32).deep (Nat.le_of_ble_eq_true rfl)) ?_
          by_cases h33 : q31 = 0
          · rw [if_pos h33] at hf
            refine go_it (t := 217) (f := 139) (L1 := [some (.ref 60), some (.int x1), some (.int x2), some (.int x3), none, some (.int x5), some (.int x6), some (.int x7), some (.int x8), some (.int (gi σ 64 x8.toNatClampNeg)), none]) (st1 := []) (σ1 := σ) rfl h33 ?_
            refine go_e (L1 := [some (.ref 60), some (.int x1), some (.int x2), some (.int x3), none, some (.int x5), some (.int x6), some (.int x7), some (.int x8), none, none]) rfl rfl ?_
            exact fX7_left_J217_ok _ _ _ _ _ _ _ _ _ hrec85 _ hf
          · rw [if_neg h33] at hf
            refine go_if (t := 217) (f := 139) (L1 := [some (.ref 60), some (.int x1), some (.int x2), some (.int x3), none, some (.int x5), some (.int x6), some (.int x7), some (.int x8), some (.int (gi σ 64 x8.toNatClampNeg)), none]) (st1 := []) (σ1 := σ) rfl h33 ?_
            refine go_n 2 (f := (142, [some (.ref 60), some (.int x1), some (.int x2), some (.int x3), none, some (.int x5), some (.int x6), some (.int x7), some (.int x8), some (.int (gi σ 64 x8.toNatClampNeg)), none], [.int x8, .ref 60], σ)) rfl ?_
            obtain ⟨q34, h35, hf⟩ := bnd hf
            refine go_c (mid := 12139) (args := [.ref 60, .int x8]) (pc := 145) (L := [some (.ref 60), some (.int x1), some (.int x2), some (.int x3), none, some (.int x5), some (.int x6), some (.int x7), some (.int x8), some (.int (gi σ 64 x8.toNatClampNeg)), none]) (st := []) (σ := σ) rfl ((fX7_doesCount_ok _ _ q34 h35).deep (Nat.le_of_ble_eq_true rfl)) ?_
            by_cases h36 : q34.1 = 0
            · rw [if_pos h36] at hf
              refine go_it (t := 217) (f := 148) (L1 := [some (.ref 60), some (.int x1), some (.int x2), some (.int x3), none, some (.int x5), some (.int x6), some (.int x7), some (.int x8), some (.int (gi σ 64 x8.toNatClampNeg)), none]) (st1 := []) (σ1 := q34.2) rfl h36 ?_
              refine go_e (L1 := [some (.ref 60), some (.int x1), some (.int x2), some (.int x3), none, some (.int x5), some (.int x6), some (.int x7), some (.int x8), none, none]) rfl rfl ?_
              exact fX7_left_J217_ok _ _ _ _ _ _ _ _ _ hrec85 _ hf
            · rw [if_neg h36] at hf
              refine go_if (t := 217) (f := 148) (L1 := [some (.ref 60), some (.int x1), some (.int x2), some (.int x3), none, some (.int x5), some (.int x6), some (.int x7), some (.int x8), some (.int (gi σ 64 x8.toNatClampNeg)), none]) (st1 := []) (σ1 := q34.2) rfl h36 ?_
              refine go_n 3 (f := (153, [some (.ref 60), some (.int x1), some (.int x2), some (.int x3), none, some (.int x5), some (.int x6), some (.int x7), some (.int x8), some (.int (gi σ 64 x8.toNatClampNeg)), none], [.int (gi σ 64 x8.toNatClampNeg), .int x8, .ref 60], q34.2)) rfl ?_
              obtain ⟨q37, h38, hf⟩ := bnd hf
              refine go_c (mid := 12116) (args := [.ref 60, .int x8, .int (gi σ 64 x8.toNatClampNeg)]) (pc := 156) (L := [some (.ref 60), some (.int x1), some (.int x2), some (.int x3), none, some (.int x5), some (.int x6), some (.int x7), some (.int x8), some (.int (gi σ 64 x8.toNatClampNeg)), none]) (st := []) (σ := q34.2) rfl ((fX7_findBounds_ok _ _ _ q37 h38).deep (Nat.le_of_ble_eq_true rfl)) ?_
              by_cases h39 : q37.1 = 0
              · rw [if_pos h39] at hf
                refine go_it (t := 217) (f := 159) (L1 := [some (.ref 60), some (.int x1), some (.int x2), some (.int x3), none, some (.int x5), some (.int x6), some (.int x7), some (.int x8), some (.int (gi σ 64 x8.toNatClampNeg)), none]) (st1 := []) (σ1 := q37.2) rfl h39 ?_
                refine go_e (L1 := [some (.ref 60), some (.int x1), some (.int x2), some (.int x3), none, some (.int x5), some (.int x6), some (.int x7), some (.int x8), none, none]) rfl rfl ?_
                exact fX7_left_J217_ok _ _ _ _ _ _ _ _ _ hrec85 _ hf
              · rw [if_neg h39] at hf
                refine go_if (t := 217) (f := 159) (L1 := [some (.ref 60), some (.int x1), some (.int x2), some (.int x3), none, some (.int x5), some (.int x6), some (.int x7), some (.int x8), some (.int (gi σ 64 x8.toNatClampNeg)), none]) (st1 := []) (σ1 := q37.2) rfl h39 ?_
                refine go_n 8 (f := (173, [some (.ref 60), some (.int x1), some (.int x2), some (.int x3), none, some (.int x5), some (.int x6), some (.int x7), some (.int x8), some (.int (gi σ 64 x8.toNatClampNeg)), none], [.long 2, .long ((gi q37.2 60 41).toInt64 + (gi q37.2 60 42).toInt64)], q37.2)) rfl ?_
                obtain ⟨q40, h41, hf⟩ := bnd hf
                refine go_c (mid := 12145) (args := [.long ((gi q37.2 60 41).toInt64 + (gi q37.2 60 42).toInt64), .long 2]) (pc := 176) (L := [some (.ref 60), some (.int x1), some (.int x2), some (.int x3), none, some (.int x5), some (.int x6), some (.int x7), some (.int x8), some (.int (gi σ 64 x8.toNatClampNeg)), none]) (st := []) (σ := q37.2) rfl ((fX7_floor_ok _ _ _ q40 h41).deep (Nat.le_of_ble_eq_true rfl)) ?_
                refine go_n 2 (f := (181, [some (.ref 60), some (.int x1), some (.int x2), some (.int x3), none, some (.int x5), some (.int (x6 + 1)), some (.int x7), some (.int x8), some (.int (gi σ 64 x8.toNatClampNeg)), some (.int q40)], [], q37.2)) rfl ?_
                refine go_n 3 (f := (185, [some (.ref 60), some (.int x1), some (.int x2), some (.int x3), none, some (.int x5), some (.int (x6 + 1)), some (.int x7), some (.int x8), some (.int (gi σ 64 x8.toNatClampNeg)), some (.int q40)], [.int (gi σ 64 x8.toNatClampNeg), .int x1, .ref 60], q37.2)) rfl ?_
                obtain ⟨q42, h43, hf⟩ := bnd hf
                refine go_c (mid := 12142) (args := [.ref 60, .int x1, .int (gi σ 64 x8.toNatClampNeg)]) (pc := 188) (L := [some (.ref 60), some (.int x1), some (.int x2), some (.int x3), none, some (.int x5), some (.int (x6 + 1)), some (.int x7), some (.int x8), some (.int (gi σ 64 x8.toNatClampNeg)), some (.int q40)]) (st := []) (σ := q37.2) rfl ((fX7_join_ok _ _ _ q42 h43).deep (Nat.le_of_ble_eq_true rfl)) ?_
                refine go_n 9 (f := (203, [some (.ref 60), some (.int x1), some (.int x2), some (.int x3), none, some (.int x5), some (.int (x6 + 1)), some (.int x7), some (.int x8), some (.int (gi σ 64 x8.toNatClampNeg)), some (.int q40)], [.long (gi q42 60 57).toInt64, .long (gi q42 60 56).toInt64, .long q40.toInt64, .int x7], q42)) rfl ?_
                obtain ⟨q44, h45, hf⟩ := bnd hf
                refine go_c (mid := 12034) (args := [.long q40.toInt64, .long (gi q42 60 56).toInt64, .long (gi q42 60 57).toInt64]) (pc := 206) (L := [some (.ref 60), some (.int x1), some (.int x2), some (.int x3), none, some (.int x5), some (.int (x6 + 1)), some (.int x7), some (.int x8), some (.int (gi σ 64 x8.toNatClampNeg)), some (.int q40)]) (st := [.int x7]) (σ := q42) rfl ((fX7_in_ok _ _ _ _ q44 h45).deep (Nat.le_of_ble_eq_true rfl)) ?_
                refine go_m (f := (214, [some (.ref 60), some (.int x1), some (.int x2), some (.int x3), none, some (.int x5), some (.int (x6 + 1)), none, some (.int x8), none, none], [.int ((if q44 = 0 then 0 else 1) : Int32), .int x7], q42)) ?_ (fun hJ48 => ?_)
                · generalize hz47 : ((if q44 = 0 then 0 else 1) : Int32) = z47 at hf ⊢
                  have oz47 : am_ok 3 z47 = true := hz47 ▸ (okb rfl rfl)
                  try dsimp only at hf
                  refine go_n 2 (f := (217, [some (.ref 60), some (.int x1), some (.int x2), some (.int x3), none, some (.int x5), some (.int (x6 + 1)), some (.int (x7 + z47)), some (.int x8), none, none], [], q42)) rfl ?_
                  exact fX7_left_J217_ok _ _ _ _ _ _ _ _ _ hrec85 _ hf
                · by_cases h46 : q44 = 0
                  · refine go_it (t := 213) (f := 209) (L1 := [some (.ref 60), some (.int x1), some (.int x2), some (.int x3), none, some (.int x5), some (.int (x6 + 1)), some (.int x7), some (.int x8), some (.int (gi σ 64 x8.toNatClampNeg)), some (.int q40)]) (st1 := [.int x7]) (σ1 := q42) rfl h46 ?_
                    refine go_n 1 (f := (214, [some (.ref 60), some (.int x1), some (.int x2), some (.int x3), none, some (.int x5), some (.int (x6 + 1)), some (.int x7), some (.int x8), some (.int (gi σ 64 x8.toNatClampNeg)), some (.int q40)], [.int 0, .int x7], q42)) rfl ?_
                    refine go_e (L1 := [some (.ref 60), some (.int x1), some (.int x2), some (.int x3), none, some (.int x5), some (.int (x6 + 1)), none, some (.int x8), none, none]) rfl rfl ?_
                    simp only [if_pos h46] at hJ48
                    first | exact hJ48 | (simp only [if_pos h46]; exact hJ48)
                  · refine go_if (t := 213) (f := 209) (L1 := [some (.ref 60), some (.int x1), some (.int x2), some (.int x3), none, some (.int x5), some (.int (x6 + 1)), some (.int x7), some (.int x8), some (.int (gi σ 64 x8.toNatClampNeg)), some (.int q40)]) (st1 := [.int x7]) (σ1 := q42) rfl h46 ?_
                    refine go_n 2 (f := (214, [some (.ref 60), some (.int x1), some (.int x2), some (.int x3), none, some (.int x5), some (.int (x6 + 1)), some (.int x7), some (.int x8), some (.int (gi σ 64 x8.toNatClampNeg)), some (.int q40)], [.int 1, .int x7], q42)) rfl ?_
                    refine go_e (L1 := [some (.ref 60), some (.int x1), some (.int x2), some (.int x3), none, some (.int x5), some (.int (x6 + 1)), none, some (.int x8), none, none]) rfl rfl ?_
                    simp only [if_neg h46] at hJ48
                    first | exact hJ48 | (simp only [if_neg h46]; exact hJ48)
def fX7_left (x1 : Int32) (x2 : Int32) (x3 : Int32) (x4 : Int32) (x5 : Int32) (σ : Sg) : Option (Int32 × Sg) :=
  (fX7_isPlace x1 (wi σ 60 0 0)).bind fun q1 => if q1 = 0 then some ((-1), (wi σ 60 0 0)) else (fX7_isDay x3).bind fun q4 => if q4 = 0 then some ((-1), (wi σ 60 0 0)) else (fX7_in x2.toInt64 0 x3.toInt64).bind fun q7 => if q7 = 0 then some ((-1), (wi σ 60 0 0)) else if 400 ≤ (x3 - x2) then some ((-1), (wi σ 60 0 0)) else (fX7_isKnown x4).bind fun q11 => if q11 = 0 then some ((-1), (wi σ 60 0 0)) else (fX7_in x5.toInt64 0 1).bind fun q14 => if q14 ≠ 0 then (fX7_knowBy x4 (wi σ 60 0 0)).bind fun q17 => (fX7_noShifts  q17).bind fun q19 => lp (fX7_left_L85 x1 x2 x3 x5 ) N0 (0, 0, 0, (wi q19 60 54 x1)) else some ((-1), (wi σ 60 0 0))
set_option maxHeartbeats 1500000 in
theorem fX7_left_ok (x1 : Int32) (x2 : Int32) (x3 : Int32) (x4 : Int32) (x5 : Int32) (σ : Sg) (r : (Int32 × Sg)) (hf : fX7_left x1 x2 x3 x4 x5 σ = some r) : Cl true 12 12148 [.ref 60, .int x1, .int x2, .int x3, .int x4, .int x5] σ (.inl (some (.int (r).1)), (r).2) := by
  refine ⟨iX7_left, rfl, Nat.le_of_ble_eq_true rfl, Nat.le_of_ble_eq_true rfl, ?_⟩
  show Go true 12 iX7_left (0, [some (.ref 60), some (.int x1), some (.int x2), some (.int x3), some (.int x4), some (.int x5), none, none, none, none, none], [], σ) (.inl (some (.int (r).1)), (r).2)
  unfold fX7_left at hf
  refine go_n 5 (f := (7, [some (.ref 60), some (.int x1), some (.int x2), some (.int x3), some (.int x4), some (.int x5), none, none, none, none, none], [.int x1, .ref 60], (wi σ 60 0 0))) rfl ?_
  obtain ⟨q1, h2, hf⟩ := bnd hf
  refine go_c (mid := 12048) (args := [.ref 60, .int x1]) (pc := 10) (L := [some (.ref 60), some (.int x1), some (.int x2), some (.int x3), some (.int x4), some (.int x5), none, none, none, none, none]) (st := []) (σ := (wi σ 60 0 0)) rfl ((fX7_isPlace_ok _ _ q1 h2).deep (Nat.le_of_ble_eq_true rfl)) ?_
  by_cases h3 : q1 = 0
  · rw [if_pos h3] at hf
    refine go_it (t := 59) (f := 13) (L1 := [some (.ref 60), some (.int x1), some (.int x2), some (.int x3), some (.int x4), some (.int x5), none, none, none, none, none]) (st1 := []) (σ1 := (wi σ 60 0 0)) rfl h3 ?_
    refine go_e (L1 := [none, none, none, none, none, none, none, none, none, none, none]) rfl rfl ?_
    refine go_n 1 (f := (60, [none, none, none, none, none, none, none, none, none, none, none], [.int (-1)], (wi σ 60 0 0))) rfl ?_
    cases hf
    exact go_r rfl
  · rw [if_neg h3] at hf
    refine go_if (t := 59) (f := 13) (L1 := [some (.ref 60), some (.int x1), some (.int x2), some (.int x3), some (.int x4), some (.int x5), none, none, none, none, none]) (st1 := []) (σ1 := (wi σ 60 0 0)) rfl h3 ?_
    refine go_n 1 (f := (14, [some (.ref 60), some (.int x1), some (.int x2), some (.int x3), some (.int x4), some (.int x5), none, none, none, none, none], [.int x3], (wi σ 60 0 0))) rfl ?_
    obtain ⟨q4, h5, hf⟩ := bnd hf
    refine go_c (mid := 12042) (args := [.int x3]) (pc := 17) (L := [some (.ref 60), some (.int x1), some (.int x2), some (.int x3), some (.int x4), some (.int x5), none, none, none, none, none]) (st := []) (σ := (wi σ 60 0 0)) rfl ((fX7_isDay_ok _ _ q4 h5).deep (Nat.le_of_ble_eq_true rfl)) ?_
    by_cases h6 : q4 = 0
    · rw [if_pos h6] at hf
      refine go_it (t := 59) (f := 20) (L1 := [some (.ref 60), some (.int x1), some (.int x2), some (.int x3), some (.int x4), some (.int x5), none, none, none, none, none]) (st1 := []) (σ1 := (wi σ 60 0 0)) rfl h6 ?_
      refine go_e (L1 := [none, none, none, none, none, none, none, none, none, none, none]) rfl rfl ?_
      refine go_n 1 (f := (60, [none, none, none, none, none, none, none, none, none, none, none], [.int (-1)], (wi σ 60 0 0))) rfl ?_
      cases hf
      exact go_r rfl
    · rw [if_neg h6] at hf
      refine go_if (t := 59) (f := 20) (L1 := [some (.ref 60), some (.int x1), some (.int x2), some (.int x3), some (.int x4), some (.int x5), none, none, none, none, none]) (st1 := []) (σ1 := (wi σ 60 0 0)) rfl h6 ?_
      refine go_n 5 (f := (25, [some (.ref 60), some (.int x1), some (.int x2), some (.int x3), some (.int x4), some (.int x5), none, none, none, none, none], [.long x3.toInt64, .long 0, .long x2.toInt64], (wi σ 60 0 0))) rfl ?_
      obtain ⟨q7, h8, hf⟩ := bnd hf
      refine go_c (mid := 12034) (args := [.long x2.toInt64, .long 0, .long x3.toInt64]) (pc := 28) (L := [some (.ref 60), some (.int x1), some (.int x2), some (.int x3), some (.int x4), some (.int x5), none, none, none, none, none]) (st := []) (σ := (wi σ 60 0 0)) rfl ((fX7_in_ok _ _ _ _ q7 h8).deep (Nat.le_of_ble_eq_true rfl)) ?_
      by_cases h9 : q7 = 0
      · rw [if_pos h9] at hf
        refine go_it (t := 59) (f := 31) (L1 := [some (.ref 60), some (.int x1), some (.int x2), some (.int x3), some (.int x4), some (.int x5), none, none, none, none, none]) (st1 := []) (σ1 := (wi σ 60 0 0)) rfl h9 ?_
        refine go_e (L1 := [none, none, none, none, none, none, none, none, none, none, none]) rfl rfl ?_
        refine go_n 1 (f := (60, [none, none, none, none, none, none, none, none, none, none, none], [.int (-1)], (wi σ 60 0 0))) rfl ?_
        cases hf
        exact go_r rfl
      · rw [if_neg h9] at hf
        refine go_if (t := 59) (f := 31) (L1 := [some (.ref 60), some (.int x1), some (.int x2), some (.int x3), some (.int x4), some (.int x5), none, none, none, none, none]) (st1 := []) (σ1 := (wi σ 60 0 0)) rfl h9 ?_
        refine go_n 4 (f := (37, [some (.ref 60), some (.int x1), some (.int x2), some (.int x3), some (.int x4), some (.int x5), none, none, none, none, none], [.int 400, .int (x3 - x2)], (wi σ 60 0 0))) rfl ?_
        by_cases h10 : 400 ≤ (x3 - x2)
        · rw [if_pos h10] at hf
          refine go_it (t := 59) (f := 40) (L1 := [some (.ref 60), some (.int x1), some (.int x2), some (.int x3), some (.int x4), some (.int x5), none, none, none, none, none]) (st1 := []) (σ1 := (wi σ 60 0 0)) rfl h10 ?_
          refine go_e (L1 := [none, none, none, none, none, none, none, none, none, none, none]) rfl rfl ?_
          refine go_n 1 (f := (60, [none, none, none, none, none, none, none, none, none, none, none], [.int (-1)], (wi σ 60 0 0))) rfl ?_
          cases hf
          exact go_r rfl
        · rw [if_neg h10] at hf
          refine go_if (t := 59) (f := 40) (L1 := [some (.ref 60), some (.int x1), some (.int x2), some (.int x3), some (.int x4), some (.int x5), none, none, none, none, none]) (st1 := []) (σ1 := (wi σ 60 0 0)) rfl h10 ?_
          refine go_n 1 (f := (42, [some (.ref 60), some (.int x1), some (.int x2), some (.int x3), some (.int x4), some (.int x5), none, none, none, none, none], [.int x4], (wi σ 60 0 0))) rfl ?_
          obtain ⟨q11, h12, hf⟩ := bnd hf
          refine go_c (mid := 12057) (args := [.int x4]) (pc := 45) (L := [some (.ref 60), some (.int x1), some (.int x2), some (.int x3), some (.int x4), some (.int x5), none, none, none, none, none]) (st := []) (σ := (wi σ 60 0 0)) rfl ((fX7_isKnown_ok _ _ q11 h12).deep (Nat.le_of_ble_eq_true rfl)) ?_
          by_cases h13 : q11 = 0
          · rw [if_pos h13] at hf
            refine go_it (t := 59) (f := 48) (L1 := [some (.ref 60), some (.int x1), some (.int x2), some (.int x3), some (.int x4), some (.int x5), none, none, none, none, none]) (st1 := []) (σ1 := (wi σ 60 0 0)) rfl h13 ?_
            refine go_e (L1 := [none, none, none, none, none, none, none, none, none, none, none]) rfl rfl ?_
            refine go_n 1 (f := (60, [none, none, none, none, none, none, none, none, none, none, none], [.int (-1)], (wi σ 60 0 0))) rfl ?_
            cases hf
            exact go_r rfl
          · rw [if_neg h13] at hf
            refine go_if (t := 59) (f := 48) (L1 := [some (.ref 60), some (.int x1), some (.int x2), some (.int x3), some (.int x4), some (.int x5), none, none, none, none, none]) (st1 := []) (σ1 := (wi σ 60 0 0)) rfl h13 ?_
            refine go_n 4 (f := (53, [some (.ref 60), some (.int x1), some (.int x2), some (.int x3), some (.int x4), some (.int x5), none, none, none, none, none], [.long 1, .long 0, .long x5.toInt64], (wi σ 60 0 0))) rfl ?_
            obtain ⟨q14, h15, hf⟩ := bnd hf
            refine go_c (mid := 12034) (args := [.long x5.toInt64, .long 0, .long 1]) (pc := 56) (L := [some (.ref 60), some (.int x1), some (.int x2), some (.int x3), some (.int x4), some (.int x5), none, none, none, none, none]) (st := []) (σ := (wi σ 60 0 0)) rfl ((fX7_in_ok _ _ _ _ q14 h15).deep (Nat.le_of_ble_eq_true rfl)) ?_
            by_cases h16 : q14 ≠ 0
            · rw [if_pos h16] at hf
              refine go_it (t := 61) (f := 59) (L1 := [some (.ref 60), some (.int x1), some (.int x2), some (.int x3), some (.int x4), some (.int x5), none, none, none, none, none]) (st1 := []) (σ1 := (wi σ 60 0 0)) rfl h16 ?_
              refine go_n 2 (f := (64, [some (.ref 60), some (.int x1), some (.int x2), some (.int x3), some (.int x4), some (.int x5), none, none, none, none, none], [.int x4, .ref 60], (wi σ 60 0 0))) rfl ?_
              obtain ⟨q17, h18, hf⟩ := bnd hf
              refine go_c (mid := 12107) (args := [.ref 60, .int x4]) (pc := 67) (L := [some (.ref 60), some (.int x1), some (.int x2), some (.int x3), some (.int x4), some (.int x5), none, none, none, none, none]) (st := []) (σ := (wi σ 60 0 0)) rfl ((fX7_knowBy_ok _ _ q17 h18).deep (Nat.le_of_ble_eq_true rfl)) ?_
              refine go_n 1 (f := (68, [some (.ref 60), some (.int x1), some (.int x2), some (.int x3), some (.int x4), some (.int x5), none, none, none, none, none], [.ref 60], q17)) rfl ?_
              obtain ⟨q19, h20, hf⟩ := bnd hf
              refine go_c (mid := 12141) (args := [.ref 60]) (pc := 71) (L := [some (.ref 60), some (.int x1), some (.int x2), some (.int x3), some (.int x4), some (.int x5), none, none, none, none, none]) (st := []) (σ := q17) rfl ((fX7_noShifts_ok _ q19 h20).deep (Nat.le_of_ble_eq_true rfl)) ?_
              refine go_n 5 (f := (79, [some (.ref 60), some (.int x1), some (.int x2), some (.int x3), some (.int x4), some (.int x5), some (.int 0), none, none, none, none], [], (wi q19 60 54 x1))) rfl ?_
              refine go_n 4 (f := (85, [some (.ref 60), some (.int x1), some (.int x2), some (.int x3), some (.int x4), some (.int x5), some (.int 0), some (.int 0), some (.int 0), none, none], [], (wi q19 60 54 x1))) rfl ?_
              refine go_e (L1 := [some (.ref 60), some (.int x1), some (.int x2), some (.int x3), none, some (.int x5), some (.int 0), some (.int 0), some (.int 0), none, none]) rfl rfl ?_
              exact fX7_left_L85_ok _ _ _ _   N0 _ _ _ _ _ hf
            · rw [if_neg h16] at hf
              refine go_if (t := 61) (f := 59) (L1 := [some (.ref 60), some (.int x1), some (.int x2), some (.int x3), some (.int x4), some (.int x5), none, none, none, none, none]) (st1 := []) (σ1 := (wi σ 60 0 0)) rfl h16 ?_
              refine go_e (L1 := [none, none, none, none, none, none, none, none, none, none, none]) rfl rfl ?_
              refine go_n 1 (f := (60, [none, none, none, none, none, none, none, none, none, none, none], [.int (-1)], (wi σ 60 0 0))) rfl ?_
              cases hf
              exact go_r rfl
/-! OldWeatherModel.findShifts()V -/
def fX7_findShifts_J130 (x1 : Int32) (x3 : Int32) (x4 : Int32) (s0 : Int32) (s1 : Int32) (rec2 : (Int32 × Sg) → Option Sg) (rec47 : (Int32 × Sg) → Option Sg) (σ : Sg) : Option Sg :=
  if inb s1 1800 then if inb x4 1800 then if inb x4 1800 then rec47 ((x3 + 1), (wi (wi (wi σ 88 s1.toNatClampNeg (am_nr 4 s0)) 86 x4.toNatClampNeg (gi σ 60 41)) 87 x4.toNatClampNeg (gi σ 60 42))) else none else none else none
set_option maxHeartbeats 1500000 in
theorem fX7_findShifts_J130_ok (x1 : Int32) (x3 : Int32) (x4 : Int32) (s0 : Int32) (s1 : Int32) (rec2 : (Int32 × Sg) → Option Sg) (rec47 : (Int32 × Sg) → Option Sg) (σ : Sg) (hrec2 : ∀ (y1 : Int32) (τ : Sg) (r : Sg), rec2 (y1, τ) = some r → Go true 11 iX7_findShifts (2, [some (.ref 60), some (.int y1), none, none, none, none], [], τ) (.inl none, r)) (hrec47 : ∀ (y3 : Int32) (τ : Sg) (r : Sg), rec47 (y3, τ) = some r → Go true 11 iX7_findShifts (47, [some (.ref 60), some (.int x1), none, some (.int y3), none, none], [], τ) (.inl none, r)) (r : Sg) (hf : fX7_findShifts_J130 x1 x3 x4 s0 s1 rec2 rec47 σ = some r) : Go true 11 iX7_findShifts (130, [some (.ref 60), some (.int x1), none, some (.int x3), some (.int x4), none], [.int s0, .int s1, .ref 88], σ) (.inl none, r) := by
  unfold fX7_findShifts_J130 at hf
  obtain ⟨h12, hf⟩ := grd hf
  refine go_bast rfl rfl (Or.inr rfl) h12 ?_
  refine go_n 5 (f := (141, [some (.ref 60), some (.int x1), none, some (.int x3), some (.int x4), none], [.int (gi σ 60 41), .int x4, .ref 86], (wi σ 88 s1.toNatClampNeg (am_nr 4 s0)))) rfl ?_
  obtain ⟨h13, hf⟩ := grd hf
  refine go_iast rfl rfl rfl h13 ?_
  refine go_n 5 (f := (152, [some (.ref 60), some (.int x1), none, some (.int x3), some (.int x4), none], [.int (gi σ 60 42), .int x4, .ref 87], (wi (wi σ 88 s1.toNatClampNeg (am_nr 4 s0)) 86 x4.toNatClampNeg (gi σ 60 41)))) rfl ?_
  obtain ⟨h14, hf⟩ := grd hf
  refine go_iast rfl rfl rfl h14 ?_
  refine go_n 2 (f := (47, [some (.ref 60), some (.int x1), none, some (.int (x3 + 1)), some (.int x4), none], [], (wi (wi (wi σ 88 s1.toNatClampNeg (am_nr 4 s0)) 86 x4.toNatClampNeg (gi σ 60 41)) 87 x4.toNatClampNeg (gi σ 60 42)))) rfl ?_
  refine go_e (L1 := [some (.ref 60), some (.int x1), none, some (.int (x3 + 1)), none, none]) rfl rfl ?_
  exact hrec47 _ _ _ hf
def fX7_findShifts_J129 (x1 : Int32) (x3 : Int32) (x4 : Int32) (s0 : Int32) (rec2 : (Int32 × Sg) → Option Sg) (rec47 : (Int32 × Sg) → Option Sg) (σ : Sg) : Option Sg :=
  fX7_findShifts_J130 x1 x3 x4 0 s0 rec2 rec47 σ
set_option maxHeartbeats 1500000 in
theorem fX7_findShifts_J129_ok (x1 : Int32) (x3 : Int32) (x4 : Int32) (s0 : Int32) (rec2 : (Int32 × Sg) → Option Sg) (rec47 : (Int32 × Sg) → Option Sg) (σ : Sg) (hrec2 : ∀ (y1 : Int32) (τ : Sg) (r : Sg), rec2 (y1, τ) = some r → Go true 11 iX7_findShifts (2, [some (.ref 60), some (.int y1), none, none, none, none], [], τ) (.inl none, r)) (hrec47 : ∀ (y3 : Int32) (τ : Sg) (r : Sg), rec47 (y3, τ) = some r → Go true 11 iX7_findShifts (47, [some (.ref 60), some (.int x1), none, some (.int y3), none, none], [], τ) (.inl none, r)) (r : Sg) (hf : fX7_findShifts_J129 x1 x3 x4 s0 rec2 rec47 σ = some r) : Go true 11 iX7_findShifts (129, [some (.ref 60), some (.int x1), none, some (.int x3), some (.int x4), none], [.int s0, .ref 88], σ) (.inl none, r) := by
  unfold fX7_findShifts_J129 at hf
  refine go_n 1 (f := (130, [some (.ref 60), some (.int x1), none, some (.int x3), some (.int x4), none], [.int 0, .int s0, .ref 88], σ)) rfl ?_
  exact fX7_findShifts_J130_ok _ _ _ _ _ _ _ _ hrec2 hrec47 _ hf
def fX7_findShifts_J115 (x1 : Int32) (x3 : Int32) (x4 : Int32) (x5 : Int32) (s0 : Int32) (rec2 : (Int32 × Sg) → Option Sg) (rec47 : (Int32 × Sg) → Option Sg) (σ : Sg) : Option Sg :=
  (fX7_findBounds x1 x5 σ).bind fun q19 => ((fun (z22 : Int32) => if inb s0 1800 then if inb x4 1800 then if inb x4 1800 then rec47 ((x3 + 1), (wi (wi (wi q19.2 88 s0.toNatClampNeg (am_nr 4 z22)) 86 x4.toNatClampNeg (gi q19.2 60 41)) 87 x4.toNatClampNeg (gi q19.2 60 42))) else none else none else none) ((if q19.1 = 0 then 0 else 1) : Int32))
set_option maxHeartbeats 1500000 in
theorem fX7_findShifts_J115_ok (x1 : Int32) (x3 : Int32) (x4 : Int32) (x5 : Int32) (s0 : Int32) (rec2 : (Int32 × Sg) → Option Sg) (rec47 : (Int32 × Sg) → Option Sg) (σ : Sg) (hrec2 : ∀ (y1 : Int32) (τ : Sg) (r : Sg), rec2 (y1, τ) = some r → Go true 11 iX7_findShifts (2, [some (.ref 60), some (.int y1), none, none, none, none], [], τ) (.inl none, r)) (hrec47 : ∀ (y3 : Int32) (τ : Sg) (r : Sg), rec47 (y3, τ) = some r → Go true 11 iX7_findShifts (47, [some (.ref 60), some (.int x1), none, some (.int y3), none, none], [], τ) (.inl none, r)) (r : Sg) (hf : fX7_findShifts_J115 x1 x3 x4 x5 s0 rec2 rec47 σ = some r) : Go true 11 iX7_findShifts (115, [some (.ref 60), some (.int x1), none, some (.int x3), some (.int x4), some (.int x5)], [.int s0, .ref 88], σ) (.inl none, r) := by
  unfold fX7_findShifts_J115 at hf
  refine go_n 3 (f := (119, [some (.ref 60), some (.int x1), none, some (.int x3), some (.int x4), some (.int x5)], [.int x5, .int x1, .ref 60, .int s0, .ref 88], σ)) rfl ?_
  obtain ⟨q19, h20, hf⟩ := bnd hf
  refine go_c (mid := 12116) (args := [.ref 60, .int x1, .int x5]) (pc := 122) (L := [some (.ref 60), some (.int x1), none, some (.int x3), some (.int x4), some (.int x5)]) (st := [.int s0, .ref 88]) (σ := σ) rfl ((fX7_findBounds_ok _ _ _ q19 h20).deep (Nat.le_of_ble_eq_true rfl)) ?_
  refine go_m (f := (130, [some (.ref 60), some (.int x1), none, some (.int x3), some (.int x4), none], [.int ((if q19.1 = 0 then 0 else 1) : Int32), .int s0, .ref 88], q19.2)) ?_ (fun hJ26 => ?_)
  · generalize hz22 : ((if q19.1 = 0 then 0 else 1) : Int32) = z22 at hf ⊢
    have oz22 : am_ok 3 z22 = true := hz22 ▸ (okb rfl rfl)
    try dsimp only at hf
    obtain ⟨h23, hf⟩ := grd hf
    refine go_bast rfl rfl (Or.inr rfl) h23 ?_
    refine go_n 5 (f := (141, [some (.ref 60), some (.int x1), none, some (.int x3), some (.int x4), none], [.int (gi q19.2 60 41), .int x4, .ref 86], (wi q19.2 88 s0.toNatClampNeg (am_nr 4 z22)))) rfl ?_
    obtain ⟨h24, hf⟩ := grd hf
    refine go_iast rfl rfl rfl h24 ?_
    refine go_n 5 (f := (152, [some (.ref 60), some (.int x1), none, some (.int x3), some (.int x4), none], [.int (gi q19.2 60 42), .int x4, .ref 87], (wi (wi q19.2 88 s0.toNatClampNeg (am_nr 4 z22)) 86 x4.toNatClampNeg (gi q19.2 60 41)))) rfl ?_
    obtain ⟨h25, hf⟩ := grd hf
    refine go_iast rfl rfl rfl h25 ?_
    refine go_n 2 (f := (47, [some (.ref 60), some (.int x1), none, some (.int (x3 + 1)), some (.int x4), none], [], (wi (wi (wi q19.2 88 s0.toNatClampNeg (am_nr 4 z22)) 86 x4.toNatClampNeg (gi q19.2 60 41)) 87 x4.toNatClampNeg (gi q19.2 60 42)))) rfl ?_
    refine go_e (L1 := [some (.ref 60), some (.int x1), none, some (.int (x3 + 1)), none, none]) rfl rfl ?_
    exact hrec47 _ _ _ hf
  · by_cases h21 : q19.1 = 0
    · refine go_it (t := 129) (f := 125) (L1 := [some (.ref 60), some (.int x1), none, some (.int x3), some (.int x4), some (.int x5)]) (st1 := [.int s0, .ref 88]) (σ1 := q19.2) rfl h21 ?_
      refine go_e (L1 := [some (.ref 60), some (.int x1), none, some (.int x3), some (.int x4), none]) rfl rfl ?_
      refine go_n 1 (f := (130, [some (.ref 60), some (.int x1), none, some (.int x3), some (.int x4), none], [.int 0, .int s0, .ref 88], q19.2)) rfl ?_
      refine go_e (L1 := [some (.ref 60), some (.int x1), none, some (.int x3), some (.int x4), none]) rfl rfl ?_
      simp only [if_pos h21] at hJ26
      first | exact hJ26 | (simp only [if_pos h21]; exact hJ26)
    · refine go_if (t := 129) (f := 125) (L1 := [some (.ref 60), some (.int x1), none, some (.int x3), some (.int x4), some (.int x5)]) (st1 := [.int s0, .ref 88]) (σ1 := q19.2) rfl h21 ?_
      refine go_n 2 (f := (130, [some (.ref 60), some (.int x1), none, some (.int x3), some (.int x4), some (.int x5)], [.int 1, .int s0, .ref 88], q19.2)) rfl ?_
      refine go_e (L1 := [some (.ref 60), some (.int x1), none, some (.int x3), some (.int x4), none]) rfl rfl ?_
      simp only [if_neg h21] at hJ26
      first | exact hJ26 | (simp only [if_neg h21]; exact hJ26)
def fX7_findShifts_L47 (x1 : Int32) (rec2 : (Int32 × Sg) → Option Sg) (rec47 : (Int32 × Sg) → Option Sg) (s : Int32 × Sg) : Option Sg :=
  match s with
  | (x3, σ) => if 9 ≤ x3 then rec2 ((x1 + 1), σ) else if inb x1 200 then (fX7_shiftBy x3).bind fun q8 => if inb x1 200 then if (gi σ 89 x1.toNatClampNeg) = (-1) then fX7_findShifts_J129 x1 x3 ((9 * x1) + x3) ((9 * x1) + x3) rec2 rec47 σ else (fX7_isDay ((gi σ 89 x1.toNatClampNeg) + q8)).bind fun q15 => if q15 = 0 then fX7_findShifts_J129 x1 x3 ((9 * x1) + x3) ((9 * x1) + x3) rec2 rec47 σ else if x3 = 0 then fX7_findShifts_J115 x1 x3 ((9 * x1) + x3) ((gi σ 89 x1.toNatClampNeg) + q8) ((9 * x1) + x3) rec2 rec47 σ else (fX7_sourceOf x1 σ).bind fun q27 => (fX7_wishOf q27 σ).bind fun q29 => if q29 = (-1) then fX7_findShifts_J129 x1 x3 ((9 * x1) + x3) ((9 * x1) + x3) rec2 rec47 σ else fX7_findShifts_J115 x1 x3 ((9 * x1) + x3) ((gi σ 89 x1.toNatClampNeg) + q8) ((9 * x1) + x3) rec2 rec47 σ else none else none
set_option maxHeartbeats 1500000 in
theorem fX7_findShifts_L47_ok (x1 : Int32) (rec2 : (Int32 × Sg) → Option Sg) (hrec2 : ∀ (y1 : Int32) (τ : Sg) (r : Sg), rec2 (y1, τ) = some r → Go true 11 iX7_findShifts (2, [some (.ref 60), some (.int y1), none, none, none, none], [], τ) (.inl none, r)) : ∀ (n : Nat) (x3 : Int32) (σ : Sg) (r : Sg), lp (fX7_findShifts_L47 x1 rec2) n (x3, σ) = some r → Go true 11 iX7_findShifts (47, [some (.ref 60), some (.int x1), none, some (.int x3), none, none], [], σ) (.inl none, r) := by
  intro n
  induction n with
  | zero => intro x3 σ r hf; cases hf
  | succ n ih =>
    intro x3 σ r hf
    have hf : fX7_findShifts_L47 x1 rec2 (lp (fX7_findShifts_L47 x1 rec2) n) (x3, σ) = some r := hf
    have hrec47 := ih
    generalize lp (fX7_findShifts_L47 x1 rec2) n = rec47 at hf hrec47
    unfold fX7_findShifts_L47 at hf
    dsimp only at hf
    refine go_n 2 (f := (50, [some (.ref 60), some (.int x1), none, some (.int x3), none, none], [.int 9, .int x3], σ)) rfl ?_
    by_cases h6 : 9 ≤ x3
    · rw [if_pos h6] at hf
      refine go_it (t := 159) (f := 53) (L1 := [some (.ref 60), some (.int x1), none, some (.int x3), none, none]) (st1 := []) (σ1 := σ) rfl h6 ?_
      refine go_n 2 (f := (2, [some (.ref 60), some (.int (x1 + 1)), none, some (.int x3), none, none], [], σ)) rfl ?_
      refine go_e (L1 := [some (.ref 60), some (.int (x1 + 1)), none, none, none, none]) rfl rfl ?_
      exact hrec2 _ _ _ hf
    · rw [if_neg h6] at hf
      refine go_if (t := 159) (f := 53) (L1 := [some (.ref 60), some (.int x1), none, some (.int x3), none, none]) (st1 := []) (σ1 := σ) rfl h6 ?_
      refine go_n 9 (f := (66, [some (.ref 60), some (.int x1), none, some (.int x3), some (.int ((9 * x1) + x3)), none], [.int x1, .ref 89], σ)) rfl ?_
      obtain ⟨h7, hf⟩ := grd hf
      refine go_iald rfl rfl rfl h7 ?_
      refine go_n 1 (f := (68, [some (.ref 60), some (.int x1), none, some (.int x3), some (.int ((9 * x1) + x3)), none], [.int x3, .int (gi σ 89 x1.toNatClampNeg)], σ)) rfl ?_
      obtain ⟨q8, h9, hf⟩ := bnd hf
      refine go_c (mid := 12154) (args := [.int x3]) (pc := 71) (L := [some (.ref 60), some (.int x1), none, some (.int x3), some (.int ((9 * x1) + x3)), none]) (st := [.int (gi σ 89 x1.toNatClampNeg)]) (σ := σ) rfl ((fX7_shiftBy_ok _ _ q8 h9).deep (Nat.le_of_ble_eq_true rfl)) ?_
      refine go_n 8 (f := (85, [some (.ref 60), some (.int x1), none, some (.int x3), some (.int ((9 * x1) + x3)), some (.int ((gi σ 89 x1.toNatClampNeg) + q8))], [.int x1, .ref 89, .int ((9 * x1) + x3), .ref 88], σ)) rfl ?_
      obtain ⟨h10, hf⟩ := grd hf
      refine go_iald rfl rfl rfl h10 ?_
      refine go_n 1 (f := (87, [some (.ref 60), some (.int x1), none, some (.int x3), some (.int ((9 * x1) + x3)), some (.int ((gi σ 89 x1.toNatClampNeg) + q8))], [.int (-1), .int (gi σ 89 x1.toNatClampNeg), .int ((9 * x1) + x3), .ref 88], σ)) rfl ?_
      by_cases h11 : (gi σ 89 x1.toNatClampNeg) = (-1)
      · rw [if_pos h11] at hf
        refine go_it (t := 129) (f := 90) (L1 := [some (.ref 60), some (.int x1), none, some (.int x3), some (.int ((9 * x1) + x3)), some (.int ((gi σ 89 x1.toNatClampNeg) + q8))]) (st1 := [.int ((9 * x1) + x3), .ref 88]) (σ1 := σ) rfl h11 ?_
        refine go_e (L1 := [some (.ref 60), some (.int x1), none, some (.int x3), some (.int ((9 * x1) + x3)), none]) rfl rfl ?_
        exact fX7_findShifts_J129_ok _ _ _ _ _ _ _ hrec2 hrec47 _ hf
      · rw [if_neg h11] at hf
        refine go_if (t := 129) (f := 90) (L1 := [some (.ref 60), some (.int x1), none, some (.int x3), some (.int ((9 * x1) + x3)), some (.int ((gi σ 89 x1.toNatClampNeg) + q8))]) (st1 := [.int ((9 * x1) + x3), .ref 88]) (σ1 := σ) rfl h11 ?_
        refine go_n 1 (f := (92, [some (.ref 60), some (.int x1), none, some (.int x3), some (.int ((9 * x1) + x3)), some (.int ((gi σ 89 x1.toNatClampNeg) + q8))], [.int ((gi σ 89 x1.toNatClampNeg) + q8), .int ((9 * x1) + x3), .ref 88], σ)) rfl ?_
        obtain ⟨q15, h16, hf⟩ := bnd hf
        refine go_c (mid := 12042) (args := [.int ((gi σ 89 x1.toNatClampNeg) + q8)]) (pc := 95) (L := [some (.ref 60), some (.int x1), none, some (.int x3), some (.int ((9 * x1) + x3)), some (.int ((gi σ 89 x1.toNatClampNeg) + q8))]) (st := [.int ((9 * x1) + x3), .ref 88]) (σ := σ) rfl ((fX7_isDay_ok _ _ q15 h16).deep (Nat.le_of_ble_eq_true rfl)) ?_
        by_cases h17 : q15 = 0
        · rw [if_pos h17] at hf
          refine go_it (t := 129) (f := 98) (L1 := [some (.ref 60), some (.int x1), none, some (.int x3), some (.int ((9 * x1) + x3)), some (.int ((gi σ 89 x1.toNatClampNeg) + q8))]) (st1 := [.int ((9 * x1) + x3), .ref 88]) (σ1 := σ) rfl h17 ?_
          refine go_e (L1 := [some (.ref 60), some (.int x1), none, some (.int x3), some (.int ((9 * x1) + x3)), none]) rfl rfl ?_
          exact fX7_findShifts_J129_ok _ _ _ _ _ _ _ hrec2 hrec47 _ hf
        · rw [if_neg h17] at hf
          refine go_if (t := 129) (f := 98) (L1 := [some (.ref 60), some (.int x1), none, some (.int x3), some (.int ((9 * x1) + x3)), some (.int ((gi σ 89 x1.toNatClampNeg) + q8))]) (st1 := [.int ((9 * x1) + x3), .ref 88]) (σ1 := σ) rfl h17 ?_
          refine go_n 1 (f := (99, [some (.ref 60), some (.int x1), none, some (.int x3), some (.int ((9 * x1) + x3)), some (.int ((gi σ 89 x1.toNatClampNeg) + q8))], [.int x3, .int ((9 * x1) + x3), .ref 88], σ)) rfl ?_
          by_cases h18 : x3 = 0
          · rw [if_pos h18] at hf
            refine go_it (t := 115) (f := 102) (L1 := [some (.ref 60), some (.int x1), none, some (.int x3), some (.int ((9 * x1) + x3)), some (.int ((gi σ 89 x1.toNatClampNeg) + q8))]) (st1 := [.int ((9 * x1) + x3), .ref 88]) (σ1 := σ) rfl h18 ?_
            exact fX7_findShifts_J115_ok _ _ _ _ _ _ _ _ hrec2 hrec47 _ hf
          · rw [if_neg h18] at hf
            refine go_if (t := 115) (f := 102) (L1 := [some (.ref 60), some (.int x1), none, some (.int x3), some (.int ((9 * x1) + x3)), some (.int ((gi σ 89 x1.toNatClampNeg) + q8))]) (st1 := [.int ((9 * x1) + x3), .ref 88]) (σ1 := σ) rfl h18 ?_
            refine go_n 3 (f := (105, [some (.ref 60), some (.int x1), none, some (.int x3), some (.int ((9 * x1) + x3)), some (.int ((gi σ 89 x1.toNatClampNeg) + q8))], [.int x1, .ref 60, .ref 60, .int ((9 * x1) + x3), .ref 88], σ)) rfl ?_
            obtain ⟨q27, h28, hf⟩ := bnd hf
            refine go_c (mid := 12066) (args := [.ref 60, .int x1]) (pc := 108) (L := [some (.ref 60), some (.int x1), none, some (.int x3), some (.int ((9 * x1) + x3)), some (.int ((gi σ 89 x1.toNatClampNeg) + q8))]) (st := [.ref 60, .int ((9 * x1) + x3), .ref 88]) (σ := σ) rfl ((fX7_sourceOf_ok _ _ q27 h28).deep (Nat.le_of_ble_eq_true rfl)) ?_
            obtain ⟨q29, h30, hf⟩ := bnd hf
            refine go_c (mid := 12155) (args := [.ref 60, .int q27]) (pc := 111) (L := [some (.ref 60), some (.int x1), none, some (.int x3), some (.int ((9 * x1) + x3)), some (.int ((gi σ 89 x1.toNatClampNeg) + q8))]) (st := [.int ((9 * x1) + x3), .ref 88]) (σ := σ) rfl ((fX7_wishOf_ok _ _ q29 h30).deep (Nat.le_of_ble_eq_true rfl)) ?_
            refine go_n 1 (f := (112, [some (.ref 60), some (.int x1), none, some (.int x3), some (.int ((9 * x1) + x3)), some (.int ((gi σ 89 x1.toNatClampNeg) + q8))], [.int (-1), .int q29, .int ((9 * x1) + x3), .ref 88], σ)) rfl ?_
            by_cases h31 : q29 = (-1)
            · rw [if_pos h31] at hf
              refine go_it (t := 129) (f := 115) (L1 := [some (.ref 60), some (.int x1), none, some (.int x3), some (.int ((9 * x1) + x3)), some (.int ((gi σ 89 x1.toNatClampNeg) + q8))]) (st1 := [.int ((9 * x1) + x3), .ref 88]) (σ1 := σ) rfl h31 ?_
              refine go_e (L1 := [some (.ref 60), some (.int x1), none, some (.int x3), some (.int ((9 * x1) + x3)), none]) rfl rfl ?_
              exact fX7_findShifts_J129_ok _ _ _ _ _ _ _ hrec2 hrec47 _ hf
            · rw [if_neg h31] at hf
              refine go_if (t := 129) (f := 115) (L1 := [some (.ref 60), some (.int x1), none, some (.int x3), some (.int ((9 * x1) + x3)), some (.int ((gi σ 89 x1.toNatClampNeg) + q8))]) (st1 := [.int ((9 * x1) + x3), .ref 88]) (σ1 := σ) rfl h31 ?_
              exact fX7_findShifts_J115_ok _ _ _ _ _ _ _ _ hrec2 hrec47 _ hf
def fX7_findShifts_J44 (x1 : Int32) (s0 : Int32) (s1 : Int32) (rec2 : (Int32 × Sg) → Option Sg) (σ : Sg) : Option Sg :=
  if inb s1 200 then lp (fX7_findShifts_L47 x1 rec2) N0 (0, (wi σ 89 s1.toNatClampNeg s0)) else none
set_option maxHeartbeats 1500000 in
theorem fX7_findShifts_J44_ok (x1 : Int32) (s0 : Int32) (s1 : Int32) (rec2 : (Int32 × Sg) → Option Sg) (σ : Sg) (hrec2 : ∀ (y1 : Int32) (τ : Sg) (r : Sg), rec2 (y1, τ) = some r → Go true 11 iX7_findShifts (2, [some (.ref 60), some (.int y1), none, none, none, none], [], τ) (.inl none, r)) (r : Sg) (hf : fX7_findShifts_J44 x1 s0 s1 rec2 σ = some r) : Go true 11 iX7_findShifts (44, [some (.ref 60), some (.int x1), none, none, none, none], [.int s0, .int s1, .ref 89], σ) (.inl none, r) := by
  unfold fX7_findShifts_J44 at hf
  obtain ⟨h5, hf⟩ := grd hf
  refine go_iast rfl rfl rfl h5 ?_
  refine go_n 2 (f := (47, [some (.ref 60), some (.int x1), none, some (.int 0), none, none], [], (wi σ 89 s1.toNatClampNeg s0))) rfl ?_
  exact fX7_findShifts_L47_ok _ _ hrec2 N0 _ _ _ hf
def fX7_findShifts_J43 (x1 : Int32) (s0 : Int32) (rec2 : (Int32 × Sg) → Option Sg) (σ : Sg) : Option Sg :=
  fX7_findShifts_J44 x1 (-1) s0 rec2 σ
set_option maxHeartbeats 1500000 in
theorem fX7_findShifts_J43_ok (x1 : Int32) (s0 : Int32) (rec2 : (Int32 × Sg) → Option Sg) (σ : Sg) (hrec2 : ∀ (y1 : Int32) (τ : Sg) (r : Sg), rec2 (y1, τ) = some r → Go true 11 iX7_findShifts (2, [some (.ref 60), some (.int y1), none, none, none, none], [], τ) (.inl none, r)) (r : Sg) (hf : fX7_findShifts_J43 x1 s0 rec2 σ = some r) : Go true 11 iX7_findShifts (43, [some (.ref 60), some (.int x1), none, none, none, none], [.int s0, .ref 89], σ) (.inl none, r) := by
  unfold fX7_findShifts_J43 at hf
  refine go_n 1 (f := (44, [some (.ref 60), some (.int x1), none, none, none, none], [.int (-1), .int s0, .ref 89], σ)) rfl ?_
  exact fX7_findShifts_J44_ok _ _ _ _ _ hrec2 _ hf
def fX7_findShifts_L2   (rec2 : (Int32 × Sg) → Option Sg) (s : Int32 × Sg) : Option Sg :=
  match s with
  | (x1, σ) => if (gi σ 61 2) ≤ x1 then some σ else (fX7_isSure x1 σ).bind fun q2 => if q2.1 = 0 then fX7_findShifts_J43 x1 x1 rec2 q2.2 else (fX7_doesCount x1 q2.2).bind fun q32 => if q32.1 = 0 then fX7_findShifts_J43 x1 x1 rec2 q32.2 else (fX7_dayFirst x1 q32.2).bind fun q35 => fX7_findShifts_J44 x1 q35 x1 rec2 q32.2
set_option maxHeartbeats 1500000 in
theorem fX7_findShifts_L2_ok    : ∀ (n : Nat) (x1 : Int32) (σ : Sg) (r : Sg), lp (fX7_findShifts_L2  ) n (x1, σ) = some r → Go true 11 iX7_findShifts (2, [some (.ref 60), some (.int x1), none, none, none, none], [], σ) (.inl none, r) := by
  intro n
  induction n with
  | zero => intro x1 σ r hf; cases hf
  | succ n ih =>
    intro x1 σ r hf
    have hf : fX7_findShifts_L2   (lp (fX7_findShifts_L2  ) n) (x1, σ) = some r := hf
    have hrec2 := ih
    generalize lp (fX7_findShifts_L2  ) n = rec2 at hf hrec2
    unfold fX7_findShifts_L2 at hf
    dsimp only at hf
    refine go_n 5 (f := (9, [some (.ref 60), some (.int x1), none, none, none, none], [.int (gi σ 61 2), .int x1], σ)) rfl ?_
    by_cases h1 : (gi σ 61 2) ≤ x1
    · rw [if_pos h1] at hf
      refine go_it (t := 165) (f := 12) (L1 := [some (.ref 60), some (.int x1), none, none, none, none]) (st1 := []) (σ1 := σ) rfl h1 ?_
      cases hf
      exact go_r rfl
    · rw [if_neg h1] at hf
      refine go_if (t := 165) (f := 12) (L1 := [some (.ref 60), some (.int x1), none, none, none, none]) (st1 := []) (σ1 := σ) rfl h1 ?_
      refine go_n 2 (f := (14, [some (.ref 60), some (.int x1), none, none, none, none], [.int x1, .ref 60], σ)) rfl ?_
      obtain ⟨q2, h3, hf⟩ := bnd hf
      refine go_c (mid := 12130) (args := [.ref 60, .int x1]) (pc := 17) (L := [some (.ref 60), some (.int x1), none, none, none, none]) (st := []) (σ := σ) rfl ((fX7_isSure_ok _ _ q2 h3).deep (Nat.le_of_ble_eq_true rfl)) ?_
      refine go_n 5 (f := (24, [some (.ref 60), some (.int x1), some (.int q2.1), none, none, none], [.int q2.1, .int x1, .ref 89], q2.2)) rfl ?_
      by_cases h4 : q2.1 = 0
      · rw [if_pos h4] at hf
        refine go_it (t := 43) (f := 27) (L1 := [some (.ref 60), some (.int x1), some (.int q2.1), none, none, none]) (st1 := [.int x1, .ref 89]) (σ1 := q2.2) rfl h4 ?_
        refine go_e (L1 := [some (.ref 60), some (.int x1), none, none, none, none]) rfl rfl ?_
        exact fX7_findShifts_J43_ok _ _ _ _ hrec2 _ hf
      · rw [if_neg h4] at hf
        refine go_if (t := 43) (f := 27) (L1 := [some (.ref 60), some (.int x1), some (.int q2.1), none, none, none]) (st1 := [.int x1, .ref 89]) (σ1 := q2.2) rfl h4 ?_
        refine go_n 2 (f := (29, [some (.ref 60), some (.int x1), some (.int q2.1), none, none, none], [.int x1, .ref 60, .int x1, .ref 89], q2.2)) rfl ?_
        obtain ⟨q32, h33, hf⟩ := bnd hf
        refine go_c (mid := 12139) (args := [.ref 60, .int x1]) (pc := 32) (L := [some (.ref 60), some (.int x1), some (.int q2.1), none, none, none]) (st := [.int x1, .ref 89]) (σ := q2.2) rfl ((fX7_doesCount_ok _ _ q32 h33).deep (Nat.le_of_ble_eq_true rfl)) ?_
        by_cases h34 : q32.1 = 0
        · rw [if_pos h34] at hf
          refine go_it (t := 43) (f := 35) (L1 := [some (.ref 60), some (.int x1), some (.int q2.1), none, none, none]) (st1 := [.int x1, .ref 89]) (σ1 := q32.2) rfl h34 ?_
          refine go_e (L1 := [some (.ref 60), some (.int x1), none, none, none, none]) rfl rfl ?_
          exact fX7_findShifts_J43_ok _ _ _ _ hrec2 _ hf
        · rw [if_neg h34] at hf
          refine go_if (t := 43) (f := 35) (L1 := [some (.ref 60), some (.int x1), some (.int q2.1), none, none, none]) (st1 := [.int x1, .ref 89]) (σ1 := q32.2) rfl h34 ?_
          refine go_n 2 (f := (37, [some (.ref 60), some (.int x1), some (.int q2.1), none, none, none], [.int x1, .ref 60, .int x1, .ref 89], q32.2)) rfl ?_
          obtain ⟨q35, h36, hf⟩ := bnd hf
          refine go_c (mid := 12114) (args := [.ref 60, .int x1]) (pc := 40) (L := [some (.ref 60), some (.int x1), some (.int q2.1), none, none, none]) (st := [.int x1, .ref 89]) (σ := q32.2) rfl ((fX7_dayFirst_ok _ _ q35 h36).deep (Nat.le_of_ble_eq_true rfl)) ?_
          refine go_n 1 (f := (44, [some (.ref 60), some (.int x1), some (.int q2.1), none, none, none], [.int q35, .int x1, .ref 89], q32.2)) rfl ?_
          refine go_e (L1 := [some (.ref 60), some (.int x1), none, none, none, none]) rfl rfl ?_
          exact fX7_findShifts_J44_ok _ _ _ _ _ hrec2 _ hf
def fX7_findShifts  (σ : Sg) : Option Sg :=
  lp (fX7_findShifts_L2  ) N0 (0, σ)
set_option maxHeartbeats 1500000 in
theorem fX7_findShifts_ok  (σ : Sg) (r : Sg) (hf : fX7_findShifts  σ = some r) : Cl true 11 12153 [.ref 60] σ (.inl none, r) := by
  refine ⟨iX7_findShifts, rfl, Nat.le_of_ble_eq_true rfl, Nat.le_of_ble_eq_true rfl, ?_⟩
  show Go true 11 iX7_findShifts (0, [some (.ref 60), none, none, none, none, none], [], σ) (.inl none, r)
  unfold fX7_findShifts at hf
  refine go_n 2 (f := (2, [some (.ref 60), some (.int 0), none, none, none, none], [], σ)) rfl ?_
  exact fX7_findShifts_L2_ok    N0 _ _ _ hf
/-! OldWeatherModel.beside(IIII)I -/
def fX7_beside_L62 (x1 : Int32) (x2 : Int32) (x4 : Int32)  (rec62 : (Int32 × Sg) → Option (Int32 × Sg)) (s : Int32 × Sg) : Option (Int32 × Sg) :=
  match s with
  | (x5, σ) => if (gi σ 60 64) ≤ x5 then (fX7_join x1 x2 σ).bind fun q19 => (fX7_tellJoined x4 q19).bind fun q21 => some (q21, q19) else if inb x5 5 then if inb x5 5 then (fX7_shiftBy (gi σ 85 x5.toNatClampNeg)).bind fun q25 => if inb (gi σ 84 x5.toNatClampNeg) 16 then rec62 ((x5 + 1), (wi σ 81 (gi σ 84 x5.toNatClampNeg).toNatClampNeg q25)) else none else none else none
set_option maxHeartbeats 1500000 in
theorem fX7_beside_L62_ok (x1 : Int32) (x2 : Int32) (x4 : Int32)   : ∀ (n : Nat) (x5 : Int32) (σ : Sg) (r : (Int32 × Sg)), lp (fX7_beside_L62 x1 x2 x4 ) n (x5, σ) = some r → Go true 12 iX7_beside (62, [some (.ref 60), some (.int x1), some (.int x2), none, some (.int x4), some (.int x5)], [], σ) (.inl (some (.int (r).1)), (r).2) := by
  intro n
  induction n with
  | zero => intro x5 σ r hf; cases hf
  | succ n ih =>
    intro x5 σ r hf
    have hf : fX7_beside_L62 x1 x2 x4  (lp (fX7_beside_L62 x1 x2 x4 ) n) (x5, σ) = some r := hf
    have hrec62 := ih
    generalize lp (fX7_beside_L62 x1 x2 x4 ) n = rec62 at hf hrec62
    unfold fX7_beside_L62 at hf
    dsimp only at hf
    refine go_n 3 (f := (68, [some (.ref 60), some (.int x1), some (.int x2), none, some (.int x4), some (.int x5)], [.int (gi σ 60 64), .int x5], σ)) rfl ?_
    by_cases h18 : (gi σ 60 64) ≤ x5
    · rw [if_pos h18] at hf
      refine go_it (t := 99) (f := 71) (L1 := [some (.ref 60), some (.int x1), some (.int x2), none, some (.int x4), some (.int x5)]) (st1 := []) (σ1 := σ) rfl h18 ?_
      refine go_n 3 (f := (102, [some (.ref 60), some (.int x1), some (.int x2), none, some (.int x4), some (.int x5)], [.int x2, .int x1, .ref 60], σ)) rfl ?_
      obtain ⟨q19, h20, hf⟩ := bnd hf
      refine go_c (mid := 12142) (args := [.ref 60, .int x1, .int x2]) (pc := 105) (L := [some (.ref 60), some (.int x1), some (.int x2), none, some (.int x4), some (.int x5)]) (st := []) (σ := σ) rfl ((fX7_join_ok _ _ _ q19 h20).deep (Nat.le_of_ble_eq_true rfl)) ?_
      refine go_n 2 (f := (108, [some (.ref 60), some (.int x1), some (.int x2), none, some (.int x4), some (.int x5)], [.int x4, .ref 60], q19)) rfl ?_
      obtain ⟨q21, h22, hf⟩ := bnd hf
      refine go_c (mid := 12146) (args := [.ref 60, .int x4]) (pc := 111) (L := [some (.ref 60), some (.int x1), some (.int x2), none, some (.int x4), some (.int x5)]) (st := []) (σ := q19) rfl ((fX7_tellJoined_ok _ _ q21 h22).deep (Nat.le_of_ble_eq_true rfl)) ?_
      cases hf
      exact go_r rfl
    · rw [if_neg h18] at hf
      refine go_if (t := 99) (f := 71) (L1 := [some (.ref 60), some (.int x1), some (.int x2), none, some (.int x4), some (.int x5)]) (st1 := []) (σ1 := σ) rfl h18 ?_
      refine go_n 5 (f := (81, [some (.ref 60), some (.int x1), some (.int x2), none, some (.int x4), some (.int x5)], [.int x5, .ref 84, .ref 81], σ)) rfl ?_
      obtain ⟨h23, hf⟩ := grd hf
      refine go_iald rfl rfl rfl h23 ?_
      refine go_n 3 (f := (88, [some (.ref 60), some (.int x1), some (.int x2), none, some (.int x4), some (.int x5)], [.int x5, .ref 85, .int (gi σ 84 x5.toNatClampNeg), .ref 81], σ)) rfl ?_
      obtain ⟨h24, hf⟩ := grd hf
      refine go_iald rfl rfl rfl h24 ?_
      obtain ⟨q25, h26, hf⟩ := bnd hf
      refine go_c (mid := 12154) (args := [.int (gi σ 85 x5.toNatClampNeg)]) (pc := 92) (L := [some (.ref 60), some (.int x1), some (.int x2), none, some (.int x4), some (.int x5)]) (st := [.int (gi σ 84 x5.toNatClampNeg), .ref 81]) (σ := σ) rfl ((fX7_shiftBy_ok _ _ q25 h26).deep (Nat.le_of_ble_eq_true rfl)) ?_
      obtain ⟨h27, hf⟩ := grd hf
      refine go_iast rfl rfl rfl h27 ?_
      refine go_n 2 (f := (62, [some (.ref 60), some (.int x1), some (.int x2), none, some (.int x4), some (.int (x5 + 1))], [], (wi σ 81 (gi σ 84 x5.toNatClampNeg).toNatClampNeg q25))) rfl ?_
      exact hrec62 _ _ _ hf
def fX7_beside (x1 : Int32) (x2 : Int32) (x3 : Int32) (x4 : Int32) (σ : Sg) : Option (Int32 × Sg) :=
  if (gi σ 60 63) = 0 then some ((-100000), (wi σ 60 0 0)) else (fX7_isPlace x1 (wi σ 60 0 0)).bind fun q2 => if q2 = 0 then some ((-100000), (wi σ 60 0 0)) else (fX7_isDay x2).bind fun q5 => if q5 = 0 then some ((-100000), (wi σ 60 0 0)) else (fX7_isKnown x3).bind fun q8 => if q8 = 0 then some ((-100000), (wi σ 60 0 0)) else (fX7_in x4.toInt64 0 4).bind fun q11 => if q11 ≠ 0 then (fX7_knowBy x3 (wi σ 60 0 0)).bind fun q14 => (fX7_noShifts  q14).bind fun q16 => lp (fX7_beside_L62 x1 x2 x4 ) N0 (0, q16) else some ((-100000), (wi σ 60 0 0))
set_option maxHeartbeats 1500000 in
theorem fX7_beside_ok (x1 : Int32) (x2 : Int32) (x3 : Int32) (x4 : Int32) (σ : Sg) (r : (Int32 × Sg)) (hf : fX7_beside x1 x2 x3 x4 σ = some r) : Cl true 12 12161 [.ref 60, .int x1, .int x2, .int x3, .int x4] σ (.inl (some (.int (r).1)), (r).2) := by
  refine ⟨iX7_beside, rfl, Nat.le_of_ble_eq_true rfl, Nat.le_of_ble_eq_true rfl, ?_⟩
  show Go true 12 iX7_beside (0, [some (.ref 60), some (.int x1), some (.int x2), some (.int x3), some (.int x4), none], [], σ) (.inl (some (.int (r).1)), (r).2)
  unfold fX7_beside at hf
  refine go_n 5 (f := (9, [some (.ref 60), some (.int x1), some (.int x2), some (.int x3), some (.int x4), none], [.int (gi σ 60 63)], (wi σ 60 0 0))) rfl ?_
  by_cases h1 : (gi σ 60 63) = 0
  · rw [if_pos h1] at hf
    refine go_it (t := 47) (f := 12) (L1 := [some (.ref 60), some (.int x1), some (.int x2), some (.int x3), some (.int x4), none]) (st1 := []) (σ1 := (wi σ 60 0 0)) rfl h1 ?_
    refine go_e (L1 := [none, none, none, none, none, none]) rfl rfl ?_
    refine go_n 1 (f := (49, [none, none, none, none, none, none], [.int (-100000)], (wi σ 60 0 0))) rfl ?_
    cases hf
    exact go_r rfl
  · rw [if_neg h1] at hf
    refine go_if (t := 47) (f := 12) (L1 := [some (.ref 60), some (.int x1), some (.int x2), some (.int x3), some (.int x4), none]) (st1 := []) (σ1 := (wi σ 60 0 0)) rfl h1 ?_
    refine go_n 2 (f := (14, [some (.ref 60), some (.int x1), some (.int x2), some (.int x3), some (.int x4), none], [.int x1, .ref 60], (wi σ 60 0 0))) rfl ?_
    obtain ⟨q2, h3, hf⟩ := bnd hf
    refine go_c (mid := 12048) (args := [.ref 60, .int x1]) (pc := 17) (L := [some (.ref 60), some (.int x1), some (.int x2), some (.int x3), some (.int x4), none]) (st := []) (σ := (wi σ 60 0 0)) rfl ((fX7_isPlace_ok _ _ q2 h3).deep (Nat.le_of_ble_eq_true rfl)) ?_
    by_cases h4 : q2 = 0
    · rw [if_pos h4] at hf
      refine go_it (t := 47) (f := 20) (L1 := [some (.ref 60), some (.int x1), some (.int x2), some (.int x3), some (.int x4), none]) (st1 := []) (σ1 := (wi σ 60 0 0)) rfl h4 ?_
      refine go_e (L1 := [none, none, none, none, none, none]) rfl rfl ?_
      refine go_n 1 (f := (49, [none, none, none, none, none, none], [.int (-100000)], (wi σ 60 0 0))) rfl ?_
      cases hf
      exact go_r rfl
    · rw [if_neg h4] at hf
      refine go_if (t := 47) (f := 20) (L1 := [some (.ref 60), some (.int x1), some (.int x2), some (.int x3), some (.int x4), none]) (st1 := []) (σ1 := (wi σ 60 0 0)) rfl h4 ?_
      refine go_n 1 (f := (21, [some (.ref 60), some (.int x1), some (.int x2), some (.int x3), some (.int x4), none], [.int x2], (wi σ 60 0 0))) rfl ?_
      obtain ⟨q5, h6, hf⟩ := bnd hf
      refine go_c (mid := 12042) (args := [.int x2]) (pc := 24) (L := [some (.ref 60), some (.int x1), some (.int x2), some (.int x3), some (.int x4), none]) (st := []) (σ := (wi σ 60 0 0)) rfl ((fX7_isDay_ok _ _ q5 h6).deep (Nat.le_of_ble_eq_true rfl)) ?_
      by_cases h7 : q5 = 0
      · rw [if_pos h7] at hf
        refine go_it (t := 47) (f := 27) (L1 := [some (.ref 60), some (.int x1), some (.int x2), some (.int x3), some (.int x4), none]) (st1 := []) (σ1 := (wi σ 60 0 0)) rfl h7 ?_
        refine go_e (L1 := [none, none, none, none, none, none]) rfl rfl ?_
        refine go_n 1 (f := (49, [none, none, none, none, none, none], [.int (-100000)], (wi σ 60 0 0))) rfl ?_
        cases hf
        exact go_r rfl
      · rw [if_neg h7] at hf
        refine go_if (t := 47) (f := 27) (L1 := [some (.ref 60), some (.int x1), some (.int x2), some (.int x3), some (.int x4), none]) (st1 := []) (σ1 := (wi σ 60 0 0)) rfl h7 ?_
        refine go_n 1 (f := (28, [some (.ref 60), some (.int x1), some (.int x2), some (.int x3), some (.int x4), none], [.int x3], (wi σ 60 0 0))) rfl ?_
        obtain ⟨q8, h9, hf⟩ := bnd hf
        refine go_c (mid := 12057) (args := [.int x3]) (pc := 31) (L := [some (.ref 60), some (.int x1), some (.int x2), some (.int x3), some (.int x4), none]) (st := []) (σ := (wi σ 60 0 0)) rfl ((fX7_isKnown_ok _ _ q8 h9).deep (Nat.le_of_ble_eq_true rfl)) ?_
        by_cases h10 : q8 = 0
        · rw [if_pos h10] at hf
          refine go_it (t := 47) (f := 34) (L1 := [some (.ref 60), some (.int x1), some (.int x2), some (.int x3), some (.int x4), none]) (st1 := []) (σ1 := (wi σ 60 0 0)) rfl h10 ?_
          refine go_e (L1 := [none, none, none, none, none, none]) rfl rfl ?_
          refine go_n 1 (f := (49, [none, none, none, none, none, none], [.int (-100000)], (wi σ 60 0 0))) rfl ?_
          cases hf
          exact go_r rfl
        · rw [if_neg h10] at hf
          refine go_if (t := 47) (f := 34) (L1 := [some (.ref 60), some (.int x1), some (.int x2), some (.int x3), some (.int x4), none]) (st1 := []) (σ1 := (wi σ 60 0 0)) rfl h10 ?_
          refine go_n 4 (f := (41, [some (.ref 60), some (.int x1), some (.int x2), some (.int x3), some (.int x4), none], [.long 4, .long 0, .long x4.toInt64], (wi σ 60 0 0))) rfl ?_
          obtain ⟨q11, h12, hf⟩ := bnd hf
          refine go_c (mid := 12034) (args := [.long x4.toInt64, .long 0, .long 4]) (pc := 44) (L := [some (.ref 60), some (.int x1), some (.int x2), some (.int x3), some (.int x4), none]) (st := []) (σ := (wi σ 60 0 0)) rfl ((fX7_in_ok _ _ _ _ q11 h12).deep (Nat.le_of_ble_eq_true rfl)) ?_
          by_cases h13 : q11 ≠ 0
          · rw [if_pos h13] at hf
            refine go_it (t := 50) (f := 47) (L1 := [some (.ref 60), some (.int x1), some (.int x2), some (.int x3), some (.int x4), none]) (st1 := []) (σ1 := (wi σ 60 0 0)) rfl h13 ?_
            refine go_n 2 (f := (52, [some (.ref 60), some (.int x1), some (.int x2), some (.int x3), some (.int x4), none], [.int x3, .ref 60], (wi σ 60 0 0))) rfl ?_
            obtain ⟨q14, h15, hf⟩ := bnd hf
            refine go_c (mid := 12107) (args := [.ref 60, .int x3]) (pc := 55) (L := [some (.ref 60), some (.int x1), some (.int x2), some (.int x3), some (.int x4), none]) (st := []) (σ := (wi σ 60 0 0)) rfl ((fX7_knowBy_ok _ _ q14 h15).deep (Nat.le_of_ble_eq_true rfl)) ?_
            refine go_n 1 (f := (56, [some (.ref 60), some (.int x1), some (.int x2), some (.int x3), some (.int x4), none], [.ref 60], q14)) rfl ?_
            obtain ⟨q16, h17, hf⟩ := bnd hf
            refine go_c (mid := 12141) (args := [.ref 60]) (pc := 59) (L := [some (.ref 60), some (.int x1), some (.int x2), some (.int x3), some (.int x4), none]) (st := []) (σ := q14) rfl ((fX7_noShifts_ok _ q16 h17).deep (Nat.le_of_ble_eq_true rfl)) ?_
            refine go_n 2 (f := (62, [some (.ref 60), some (.int x1), some (.int x2), some (.int x3), some (.int x4), some (.int 0)], [], q16)) rfl ?_
            refine go_e (L1 := [some (.ref 60), some (.int x1), some (.int x2), none, some (.int x4), some (.int 0)]) rfl rfl ?_
            exact fX7_beside_L62_ok _ _ _   N0 _ _ _ hf
          · rw [if_neg h13] at hf
            refine go_if (t := 50) (f := 47) (L1 := [some (.ref 60), some (.int x1), some (.int x2), some (.int x3), some (.int x4), none]) (st1 := []) (σ1 := (wi σ 60 0 0)) rfl h13 ?_
            refine go_e (L1 := [none, none, none, none, none, none]) rfl rfl ?_
            refine go_n 1 (f := (49, [none, none, none, none, none, none], [.int (-100000)], (wi σ 60 0 0))) rfl ?_
            cases hf
            exact go_r rfl
/-! OldWeatherModel.addDays(III)V -/
def fX7_addDays_L12 (x1 : Int32) (x2 : Int32) (x3 : Int32) (x4 : Int32)  (rec12 : (Int32 × Sg) → Option Sg) (s : Int32 × Sg) : Option Sg :=
  match s with
  | (x5, σ) => (fX7_monthLong x2 x3 1).bind fun q3 => if q3 ≤ x5 then some σ else (fX7_join x1 (x4 + x5) σ).bind fun q6 => rec12 ((x5 + 1), (wi (wi (wi q6 60 74 ((gi q6 60 74) + 1)) 60 75 ((gi q6 60 75) + (gi q6 60 56))) 60 76 ((gi q6 60 76) + (gi q6 60 57))))
set_option maxHeartbeats 1500000 in
theorem fX7_addDays_L12_ok (x1 : Int32) (x2 : Int32) (x3 : Int32) (x4 : Int32)   : ∀ (n : Nat) (x5 : Int32) (σ : Sg) (r : Sg), lp (fX7_addDays_L12 x1 x2 x3 x4 ) n (x5, σ) = some r → Go true 12 iX7_addDays (12, [some (.ref 60), some (.int x1), some (.int x2), some (.int x3), some (.int x4), some (.int x5)], [], σ) (.inl none, r) := by
  intro n
  induction n with
  | zero => intro x5 σ r hf; cases hf
  | succ n ih =>
    intro x5 σ r hf
    have hf : fX7_addDays_L12 x1 x2 x3 x4  (lp (fX7_addDays_L12 x1 x2 x3 x4 ) n) (x5, σ) = some r := hf
    have hrec12 := ih
    generalize lp (fX7_addDays_L12 x1 x2 x3 x4 ) n = rec12 at hf hrec12
    unfold fX7_addDays_L12 at hf
    dsimp only at hf
    refine go_n 4 (f := (17, [some (.ref 60), some (.int x1), some (.int x2), some (.int x3), some (.int x4), some (.int x5)], [.int 1, .int x3, .int x2, .int x5], σ)) rfl ?_
    obtain ⟨q3, h4, hf⟩ := bnd hf
    refine go_c (mid := 12039) (args := [.int x2, .int x3, .int 1]) (pc := 20) (L := [some (.ref 60), some (.int x1), some (.int x2), some (.int x3), some (.int x4), some (.int x5)]) (st := [.int x5]) (σ := σ) rfl ((fX7_monthLong_ok _ _ _ _ q3 h4).deep (Nat.le_of_ble_eq_true rfl)) ?_
    by_cases h5 : q3 ≤ x5
    · rw [if_pos h5] at hf
      refine go_it (t := 75) (f := 23) (L1 := [some (.ref 60), some (.int x1), some (.int x2), some (.int x3), some (.int x4), some (.int x5)]) (st1 := []) (σ1 := σ) rfl h5 ?_
      cases hf
      exact go_r rfl
    · rw [if_neg h5] at hf
      refine go_if (t := 75) (f := 23) (L1 := [some (.ref 60), some (.int x1), some (.int x2), some (.int x3), some (.int x4), some (.int x5)]) (st1 := []) (σ1 := σ) rfl h5 ?_
      refine go_n 5 (f := (30, [some (.ref 60), some (.int x1), some (.int x2), some (.int x3), some (.int x4), some (.int x5)], [.int (x4 + x5), .int x1, .ref 60], σ)) rfl ?_
      obtain ⟨q6, h7, hf⟩ := bnd hf
      refine go_c (mid := 12142) (args := [.ref 60, .int x1, .int (x4 + x5)]) (pc := 33) (L := [some (.ref 60), some (.int x1), some (.int x2), some (.int x3), some (.int x4), some (.int x5)]) (st := []) (σ := σ) rfl ((fX7_join_ok _ _ _ q6 h7).deep (Nat.le_of_ble_eq_true rfl)) ?_
      refine go_n 10 (f := (49, [some (.ref 60), some (.int x1), some (.int x2), some (.int x3), some (.int x4), some (.int x5)], [.ref 60, .int (gi q6 60 75), .ref 60], (wi q6 60 74 ((gi q6 60 74) + 1)))) rfl ?_
      refine go_n 10 (f := (69, [some (.ref 60), some (.int x1), some (.int x2), some (.int x3), some (.int x4), some (.int x5)], [], (wi (wi (wi q6 60 74 ((gi q6 60 74) + 1)) 60 75 ((gi q6 60 75) + (gi q6 60 56))) 60 76 ((gi q6 60 76) + (gi q6 60 57))))) rfl ?_
      refine go_n 2 (f := (12, [some (.ref 60), some (.int x1), some (.int x2), some (.int x3), some (.int x4), some (.int (x5 + 1))], [], (wi (wi (wi q6 60 74 ((gi q6 60 74) + 1)) 60 75 ((gi q6 60 75) + (gi q6 60 56))) 60 76 ((gi q6 60 76) + (gi q6 60 57))))) rfl ?_
      exact hrec12 _ _ _ hf
def fX7_addDays (x1 : Int32) (x2 : Int32) (x3 : Int32) (σ : Sg) : Option Sg :=
  (fX7_dayOf x2 x3 1 1).bind fun q1 => lp (fX7_addDays_L12 x1 x2 x3 q1 ) N0 (0, σ)
set_option maxHeartbeats 1500000 in
theorem fX7_addDays_ok (x1 : Int32) (x2 : Int32) (x3 : Int32) (σ : Sg) (r : Sg) (hf : fX7_addDays x1 x2 x3 σ = some r) : Cl true 12 12165 [.ref 60, .int x1, .int x2, .int x3] σ (.inl none, r) := by
  refine ⟨iX7_addDays, rfl, Nat.le_of_ble_eq_true rfl, Nat.le_of_ble_eq_true rfl, ?_⟩
  show Go true 12 iX7_addDays (0, [some (.ref 60), some (.int x1), some (.int x2), some (.int x3), none, none], [], σ) (.inl none, r)
  unfold fX7_addDays at hf
  refine go_n 4 (f := (4, [some (.ref 60), some (.int x1), some (.int x2), some (.int x3), none, none], [.int 1, .int 1, .int x3, .int x2], σ)) rfl ?_
  obtain ⟨q1, h2, hf⟩ := bnd hf
  refine go_c (mid := 12041) (args := [.int x2, .int x3, .int 1, .int 1]) (pc := 7) (L := [some (.ref 60), some (.int x1), some (.int x2), some (.int x3), none, none]) (st := []) (σ := σ) rfl ((fX7_dayOf_ok _ _ _ _ _ q1 h2).deep (Nat.le_of_ble_eq_true rfl)) ?_
  refine go_n 3 (f := (12, [some (.ref 60), some (.int x1), some (.int x2), some (.int x3), some (.int q1), some (.int 0)], [], σ)) rfl ?_
  exact fX7_addDays_L12_ok _ _ _ _   N0 _ _ _ hf
/-! OldWeatherModel.often(IIIII)I -/
def fX7_often_L130 (x1 : Int32) (x2 : Int32) (x3 : Int32) (x5 : Int32) (x6 : Int32) (x8 : Int32) (x9 : Int32) (x10 : Int32) (x11 : Int32) (rec81 : (Int32 × Int32 × Sg) → Option (Int32 × Sg)) (rec130 : (Int32 × Int32 × Sg) → Option (Int32 × Sg)) (s : Int32 × Int32 × Sg) : Option (Int32 × Sg) :=
  match s with
  | (x7, x12, σ) => (fX7_monthLong x9 x10 1).bind fun q29 => if q29 ≤ x12 then rec81 (x7, (x8 + 1), σ) else (fX7_join x1 (x11 + x12) σ).bind fun q32 => ((fun (z35 : Int32) => ((fun (z37 : Int32) => rec130 ((x7 + z37), (x12 + 1), q32)) ((if x3 ≤ z35 then 0 else 1) : Int32))) (if x5 ≠ 0 then (gi q32 60 56) else (gi q32 60 57)))
set_option maxHeartbeats 1500000 in
theorem fX7_often_L130_ok (x1 : Int32) (x2 : Int32) (x3 : Int32) (x5 : Int32) (x6 : Int32) (x8 : Int32) (x9 : Int32) (x10 : Int32) (x11 : Int32) (rec81 : (Int32 × Int32 × Sg) → Option (Int32 × Sg)) (hrec81 : ∀ (y7 : Int32) (y8 : Int32) (τ : Sg) (r : (Int32 × Sg)), rec81 (y7, y8, τ) = some r → Go true 12 iX7_often (81, [some (.ref 60), some (.int x1), some (.int x2), some (.int x3), none, some (.int x5), some (.int x6), some (.int y7), some (.int y8), none, none, none, none], [], τ) (.inl (some (.int (r).1)), (r).2)) : ∀ (n : Nat) (x7 : Int32) (x12 : Int32) (σ : Sg) (r : (Int32 × Sg)), lp (fX7_often_L130 x1 x2 x3 x5 x6 x8 x9 x10 x11 rec81) n (x7, x12, σ) = some r → Go true 12 iX7_often (130, [some (.ref 60), some (.int x1), some (.int x2), some (.int x3), none, some (.int x5), some (.int x6), some (.int x7), some (.int x8), some (.int x9), some (.int x10), some (.int x11), some (.int x12)], [], σ) (.inl (some (.int (r).1)), (r).2) := by
  intro n
  induction n with
  | zero => intro x7 x12 σ r hf; cases hf
  | succ n ih =>
    intro x7 x12 σ r hf
    have hf : fX7_often_L130 x1 x2 x3 x5 x6 x8 x9 x10 x11 rec81 (lp (fX7_often_L130 x1 x2 x3 x5 x6 x8 x9 x10 x11 rec81) n) (x7, x12, σ) = some r := hf
    have hrec130 := ih
    generalize lp (fX7_often_L130 x1 x2 x3 x5 x6 x8 x9 x10 x11 rec81) n = rec130 at hf hrec130
    unfold fX7_often_L130 at hf
    dsimp only at hf
    refine go_n 4 (f := (137, [some (.ref 60), some (.int x1), some (.int x2), some (.int x3), none, some (.int x5), some (.int x6), some (.int x7), some (.int x8), some (.int x9), some (.int x10), some (.int x11), some (.int x12)], [.int 1, .int x10, .int x9, .int x12], σ)) rfl ?_
    obtain ⟨q29, h30, hf⟩ := bnd hf
    refine go_c (mid := 12039) (args := [.int x9, .int x10, .int 1]) (pc := 140) (L := [some (.ref 60), some (.int x1), some (.int x2), some (.int x3), none, some (.int x5), some (.int x6), some (.int x7), some (.int x8), some (.int x9), some (.int x10), some (.int x11), some (.int x12)]) (st := [.int x12]) (σ := σ) rfl ((fX7_monthLong_ok _ _ _ _ q29 h30).deep (Nat.le_of_ble_eq_true rfl)) ?_
    by_cases h31 : q29 ≤ x12
    · rw [if_pos h31] at hf
      refine go_it (t := 189) (f := 143) (L1 := [some (.ref 60), some (.int x1), some (.int x2), some (.int x3), none, some (.int x5), some (.int x6), some (.int x7), some (.int x8), some (.int x9), some (.int x10), some (.int x11), some (.int x12)]) (st1 := []) (σ1 := σ) rfl h31 ?_
      refine go_n 2 (f := (81, [some (.ref 60), some (.int x1), some (.int x2), some (.int x3), none, some (.int x5), some (.int x6), some (.int x7), some (.int (x8 + 1)), some (.int x9), some (.int x10), some (.int x11), some (.int x12)], [], σ)) rfl ?_
      refine go_e (L1 := [some (.ref 60), some (.int x1), some (.int x2), some (.int x3), none, some (.int x5), some (.int x6), some (.int x7), some (.int (x8 + 1)), none, none, none, none]) rfl rfl ?_
      exact hrec81 _ _ _ _ hf
    · rw [if_neg h31] at hf
      refine go_if (t := 189) (f := 143) (L1 := [some (.ref 60), some (.int x1), some (.int x2), some (.int x3), none, some (.int x5), some (.int x6), some (.int x7), some (.int x8), some (.int x9), some (.int x10), some (.int x11), some (.int x12)]) (st1 := []) (σ1 := σ) rfl h31 ?_
      refine go_n 5 (f := (150, [some (.ref 60), some (.int x1), some (.int x2), some (.int x3), none, some (.int x5), some (.int x6), some (.int x7), some (.int x8), some (.int x9), some (.int x10), some (.int x11), some (.int x12)], [.int (x11 + x12), .int x1, .ref 60], σ)) rfl ?_
      obtain ⟨q32, h33, hf⟩ := bnd hf
      refine go_c (mid := 12142) (args := [.ref 60, .int x1, .int (x11 + x12)]) (pc := 153) (L := [some (.ref 60), some (.int x1), some (.int x2), some (.int x3), none, some (.int x5), some (.int x6), some (.int x7), some (.int x8), some (.int x9), some (.int x10), some (.int x11), some (.int x12)]) (st := []) (σ := σ) rfl ((fX7_join_ok _ _ _ q32 h33).deep (Nat.le_of_ble_eq_true rfl)) ?_
      refine go_n 2 (f := (157, [some (.ref 60), some (.int x1), some (.int x2), some (.int x3), none, some (.int x5), some (.int x6), some (.int x7), some (.int x8), some (.int x9), some (.int x10), some (.int x11), some (.int x12)], [.int x5, .int x7], q32)) rfl ?_
      refine go_m (f := (171, [some (.ref 60), some (.int x1), some (.int x2), some (.int x3), none, some (.int x5), some (.int x6), none, some (.int x8), some (.int x9), some (.int x10), some (.int x11), some (.int x12)], [.int (if x5 ≠ 0 then (gi q32 60 56) else (gi q32 60 57)), .int x7], q32)) ?_ (fun hJ39 => ?_)
      · generalize hz35 : (if x5 ≠ 0 then (gi q32 60 56) else (gi q32 60 57)) = z35 at hf ⊢
        try dsimp only at hf
        refine go_n 1 (f := (172, [some (.ref 60), some (.int x1), some (.int x2), some (.int x3), none, some (.int x5), some (.int x6), none, some (.int x8), some (.int x9), some (.int x10), some (.int x11), some (.int x12)], [.int x3, .int z35, .int x7], q32)) rfl ?_
        refine go_m (f := (180, [some (.ref 60), some (.int x1), some (.int x2), some (.int x3), none, some (.int x5), some (.int x6), none, some (.int x8), some (.int x9), some (.int x10), some (.int x11), some (.int x12)], [.int ((if x3 ≤ z35 then 0 else 1) : Int32), .int x7], q32)) ?_ (fun hJ38 => ?_)
        · generalize hz37 : ((if x3 ≤ z35 then 0 else 1) : Int32) = z37 at hf ⊢
          have oz37 : am_ok 3 z37 = true := hz37 ▸ (okb rfl rfl)
          try dsimp only at hf
          refine go_n 3 (f := (186, [some (.ref 60), some (.int x1), some (.int x2), some (.int x3), none, some (.int x5), some (.int x6), some (.int (x7 + z37)), some (.int x8), some (.int x9), some (.int x10), some (.int x11), some (.int (x12 + 1))], [], q32)) rfl ?_
          refine go_n 1 (f := (130, [some (.ref 60), some (.int x1), some (.int x2), some (.int x3), none, some (.int x5), some (.int x6), some (.int (x7 + z37)), some (.int x8), some (.int x9), some (.int x10), some (.int x11), some (.int (x12 + 1))], [], q32)) rfl ?_
          exact hrec130 _ _ _ _ hf
        · by_cases h36 : x3 ≤ z35
          · refine go_it (t := 179) (f := 175) (L1 := [some (.ref 60), some (.int x1), some (.int x2), some (.int x3), none, some (.int x5), some (.int x6), none, some (.int x8), some (.int x9), some (.int x10), some (.int x11), some (.int x12)]) (st1 := [.int x7]) (σ1 := q32) rfl h36 ?_
            refine go_n 1 (f := (180, [some (.ref 60), some (.int x1), some (.int x2), some (.int x3), none, some (.int x5), some (.int x6), none, some (.int x8), some (.int x9), some (.int x10), some (.int x11), some (.int x12)], [.int 0, .int x7], q32)) rfl ?_
            refine go_e (L1 := [some (.ref 60), some (.int x1), some (.int x2), some (.int x3), none, some (.int x5), some (.int x6), none, some (.int x8), some (.int x9), some (.int x10), some (.int x11), some (.int x12)]) rfl rfl ?_
            simp only [if_pos h36] at hJ38
            first | exact hJ38 | (simp only [if_pos h36]; exact hJ38)
          · refine go_if (t := 179) (f := 175) (L1 := [some (.ref 60), some (.int x1), some (.int x2), some (.int x3), none, some (.int x5), some (.int x6), none, some (.int x8), some (.int x9), some (.int x10), some (.int x11), some (.int x12)]) (st1 := [.int x7]) (σ1 := q32) rfl h36 ?_
            refine go_n 2 (f := (180, [some (.ref 60), some (.int x1), some (.int x2), some (.int x3), none, some (.int x5), some (.int x6), none, some (.int x8), some (.int x9), some (.int x10), some (.int x11), some (.int x12)], [.int 1, .int x7], q32)) rfl ?_
            refine go_e (L1 := [some (.ref 60), some (.int x1), some (.int x2), some (.int x3), none, some (.int x5), some (.int x6), none, some (.int x8), some (.int x9), some (.int x10), some (.int x11), some (.int x12)]) rfl rfl ?_
            simp only [if_neg h36] at hJ38
            first | exact hJ38 | (simp only [if_neg h36]; exact hJ38)
      · by_cases h34 : x5 ≠ 0
        · refine go_it (t := 167) (f := 160) (L1 := [some (.ref 60), some (.int x1), some (.int x2), some (.int x3), none, some (.int x5), some (.int x6), some (.int x7), some (.int x8), some (.int x9), some (.int x10), some (.int x11), some (.int x12)]) (st1 := [.int x7]) (σ1 := q32) rfl h34 ?_
          refine go_n 2 (f := (171, [some (.ref 60), some (.int x1), some (.int x2), some (.int x3), none, some (.int x5), some (.int x6), some (.int x7), some (.int x8), some (.int x9), some (.int x10), some (.int x11), some (.int x12)], [.int (gi q32 60 56), .int x7], q32)) rfl ?_
          refine go_e (L1 := [some (.ref 60), some (.int x1), some (.int x2), some (.int x3), none, some (.int x5), some (.int x6), none, some (.int x8), some (.int x9), some (.int x10), some (.int x11), some (.int x12)]) rfl rfl ?_
          simp only [if_pos h34] at hJ39
          first | exact hJ39 | (simp only [if_pos h34]; exact hJ39)
        · refine go_if (t := 167) (f := 160) (L1 := [some (.ref 60), some (.int x1), some (.int x2), some (.int x3), none, some (.int x5), some (.int x6), some (.int x7), some (.int x8), some (.int x9), some (.int x10), some (.int x11), some (.int x12)]) (st1 := [.int x7]) (σ1 := q32) rfl h34 ?_
          refine go_n 3 (f := (171, [some (.ref 60), some (.int x1), some (.int x2), some (.int x3), none, some (.int x5), some (.int x6), some (.int x7), some (.int x8), some (.int x9), some (.int x10), some (.int x11), some (.int x12)], [.int (gi q32 60 57), .int x7], q32)) rfl ?_
          refine go_e (L1 := [some (.ref 60), some (.int x1), some (.int x2), some (.int x3), none, some (.int x5), some (.int x6), none, some (.int x8), some (.int x9), some (.int x10), some (.int x11), some (.int x12)]) rfl rfl ?_
          simp only [if_neg h34] at hJ39
          first | exact hJ39 | (simp only [if_neg h34]; exact hJ39)
def fX7_often_L81 (x1 : Int32) (x2 : Int32) (x3 : Int32) (x5 : Int32) (x6 : Int32)  (rec81 : (Int32 × Int32 × Sg) → Option (Int32 × Sg)) (s : Int32 × Int32 × Sg) : Option (Int32 × Sg) :=
  match s with
  | (x7, x8, σ) => if x6 ≤ x8 then some (x7, σ) else ((fun (z24 : Int32) => ((fun (z26 : Int32) => (fX7_dayOf z24 z26 1 1).bind fun q27 => lp (fX7_often_L130 x1 x2 x3 x5 x6 x8 z24 z26 q27 rec81) N0 (x7, 0, σ)) (if x8 ≠ 0 then x8 else 12))) (if x8 ≠ 0 then x2 else (x2 - 1)))
set_option maxHeartbeats 1500000 in
theorem fX7_often_L81_ok (x1 : Int32) (x2 : Int32) (x3 : Int32) (x5 : Int32) (x6 : Int32)   : ∀ (n : Nat) (x7 : Int32) (x8 : Int32) (σ : Sg) (r : (Int32 × Sg)), lp (fX7_often_L81 x1 x2 x3 x5 x6 ) n (x7, x8, σ) = some r → Go true 12 iX7_often (81, [some (.ref 60), some (.int x1), some (.int x2), some (.int x3), none, some (.int x5), some (.int x6), some (.int x7), some (.int x8), none, none, none, none], [], σ) (.inl (some (.int (r).1)), (r).2) := by
  intro n
  induction n with
  | zero => intro x7 x8 σ r hf; cases hf
  | succ n ih =>
    intro x7 x8 σ r hf
    have hf : fX7_often_L81 x1 x2 x3 x5 x6  (lp (fX7_often_L81 x1 x2 x3 x5 x6 ) n) (x7, x8, σ) = some r := hf
    have hrec81 := ih
    generalize lp (fX7_often_L81 x1 x2 x3 x5 x6 ) n = rec81 at hf hrec81
    unfold fX7_often_L81 at hf
    dsimp only at hf
    refine go_n 2 (f := (85, [some (.ref 60), some (.int x1), some (.int x2), some (.int x3), none, some (.int x5), some (.int x6), some (.int x7), some (.int x8), none, none, none, none], [.int x6, .int x8], σ)) rfl ?_
    by_cases h22 : x6 ≤ x8
    · rw [if_pos h22] at hf
      refine go_it (t := 195) (f := 88) (L1 := [some (.ref 60), some (.int x1), some (.int x2), some (.int x3), none, some (.int x5), some (.int x6), some (.int x7), some (.int x8), none, none, none, none]) (st1 := []) (σ1 := σ) rfl h22 ?_
      refine go_n 1 (f := (197, [some (.ref 60), some (.int x1), some (.int x2), some (.int x3), none, some (.int x5), some (.int x6), some (.int x7), some (.int x8), none, none, none, none], [.int x7], σ)) rfl ?_
      cases hf
      exact go_r rfl
    · rw [if_neg h22] at hf
      refine go_if (t := 195) (f := 88) (L1 := [some (.ref 60), some (.int x1), some (.int x2), some (.int x3), none, some (.int x5), some (.int x6), some (.int x7), some (.int x8), none, none, none, none]) (st1 := []) (σ1 := σ) rfl h22 ?_
      refine go_n 1 (f := (90, [some (.ref 60), some (.int x1), some (.int x2), some (.int x3), none, some (.int x5), some (.int x6), some (.int x7), some (.int x8), none, none, none, none], [.int x8], σ)) rfl ?_
      refine go_m (f := (100, [some (.ref 60), some (.int x1), some (.int x2), some (.int x3), none, some (.int x5), some (.int x6), some (.int x7), some (.int x8), none, none, none, none], [.int (if x8 ≠ 0 then x2 else (x2 - 1))], σ)) ?_ (fun hJ41 => ?_)
      · generalize hz24 : (if x8 ≠ 0 then x2 else (x2 - 1)) = z24 at hf ⊢
        try dsimp only at hf
        refine go_n 2 (f := (104, [some (.ref 60), some (.int x1), some (.int x2), some (.int x3), none, some (.int x5), some (.int x6), some (.int x7), some (.int x8), some (.int z24), none, none, none], [.int x8], σ)) rfl ?_
        refine go_m (f := (114, [some (.ref 60), some (.int x1), some (.int x2), some (.int x3), none, some (.int x5), some (.int x6), some (.int x7), some (.int x8), some (.int z24), none, none, none], [.int (if x8 ≠ 0 then x8 else 12)], σ)) ?_ (fun hJ40 => ?_)
        · generalize hz26 : (if x8 ≠ 0 then x8 else 12) = z26 at hf ⊢
          try dsimp only at hf
          refine go_n 5 (f := (122, [some (.ref 60), some (.int x1), some (.int x2), some (.int x3), none, some (.int x5), some (.int x6), some (.int x7), some (.int x8), some (.int z24), some (.int z26), none, none], [.int 1, .int 1, .int z26, .int z24], σ)) rfl ?_
          obtain ⟨q27, h28, hf⟩ := bnd hf
          refine go_c (mid := 12041) (args := [.int z24, .int z26, .int 1, .int 1]) (pc := 125) (L := [some (.ref 60), some (.int x1), some (.int x2), some (.int x3), none, some (.int x5), some (.int x6), some (.int x7), some (.int x8), some (.int z24), some (.int z26), none, none]) (st := []) (σ := σ) rfl ((fX7_dayOf_ok _ _ _ _ _ q27 h28).deep (Nat.le_of_ble_eq_true rfl)) ?_
          refine go_n 3 (f := (130, [some (.ref 60), some (.int x1), some (.int x2), some (.int x3), none, some (.int x5), some (.int x6), some (.int x7), some (.int x8), some (.int z24), some (.int z26), some (.int q27), some (.int 0)], [], σ)) rfl ?_
          exact fX7_often_L130_ok _ _ _ _ _ _ _ _ _ _ hrec81 N0 _ _ _ _ hf
        · by_cases h25 : x8 ≠ 0
          · refine go_it (t := 112) (f := 107) (L1 := [some (.ref 60), some (.int x1), some (.int x2), some (.int x3), none, some (.int x5), some (.int x6), some (.int x7), some (.int x8), some (.int z24), none, none, none]) (st1 := []) (σ1 := σ) rfl h25 ?_
            refine go_n 1 (f := (114, [some (.ref 60), some (.int x1), some (.int x2), some (.int x3), none, some (.int x5), some (.int x6), some (.int x7), some (.int x8), some (.int z24), none, none, none], [.int x8], σ)) rfl ?_
            refine go_e (L1 := [some (.ref 60), some (.int x1), some (.int x2), some (.int x3), none, some (.int x5), some (.int x6), some (.int x7), some (.int x8), some (.int z24), none, none, none]) rfl rfl ?_
            simp only [if_pos h25] at hJ40
            first | exact hJ40 | (simp only [if_pos h25]; exact hJ40)
          · refine go_if (t := 112) (f := 107) (L1 := [some (.ref 60), some (.int x1), some (.int x2), some (.int x3), none, some (.int x5), some (.int x6), some (.int x7), some (.int x8), some (.int z24), none, none, none]) (st1 := []) (σ1 := σ) rfl h25 ?_
            refine go_n 2 (f := (114, [some (.ref 60), some (.int x1), some (.int x2), some (.int x3), none, some (.int x5), some (.int x6), some (.int x7), some (.int x8), some (.int z24), none, none, none], [.int 12], σ)) rfl ?_
            refine go_e (L1 := [some (.ref 60), some (.int x1), some (.int x2), some (.int x3), none, some (.int x5), some (.int x6), some (.int x7), some (.int x8), some (.int z24), none, none, none]) rfl rfl ?_
            simp only [if_neg h25] at hJ40
            first | exact hJ40 | (simp only [if_neg h25]; exact hJ40)
      · by_cases h23 : x8 ≠ 0
        · refine go_it (t := 99) (f := 93) (L1 := [some (.ref 60), some (.int x1), some (.int x2), some (.int x3), none, some (.int x5), some (.int x6), some (.int x7), some (.int x8), none, none, none, none]) (st1 := []) (σ1 := σ) rfl h23 ?_
          refine go_n 1 (f := (100, [some (.ref 60), some (.int x1), some (.int x2), some (.int x3), none, some (.int x5), some (.int x6), some (.int x7), some (.int x8), none, none, none, none], [.int x2], σ)) rfl ?_
          refine go_e (L1 := [some (.ref 60), some (.int x1), some (.int x2), some (.int x3), none, some (.int x5), some (.int x6), some (.int x7), some (.int x8), none, none, none, none]) rfl rfl ?_
          simp only [if_pos h23] at hJ41
          first | exact hJ41 | (simp only [if_pos h23]; exact hJ41)
        · refine go_if (t := 99) (f := 93) (L1 := [some (.ref 60), some (.int x1), some (.int x2), some (.int x3), none, some (.int x5), some (.int x6), some (.int x7), some (.int x8), none, none, none, none]) (st1 := []) (σ1 := σ) rfl h23 ?_
          refine go_n 4 (f := (100, [some (.ref 60), some (.int x1), some (.int x2), some (.int x3), none, some (.int x5), some (.int x6), some (.int x7), some (.int x8), none, none, none, none], [.int (x2 - 1)], σ)) rfl ?_
          refine go_e (L1 := [some (.ref 60), some (.int x1), some (.int x2), some (.int x3), none, some (.int x5), some (.int x6), some (.int x7), some (.int x8), none, none, none, none]) rfl rfl ?_
          simp only [if_neg h23] at hJ41
          first | exact hJ41 | (simp only [if_neg h23]; exact hJ41)
def fX7_often (x1 : Int32) (x2 : Int32) (x3 : Int32) (x4 : Int32) (x5 : Int32) (σ : Sg) : Option (Int32 × Sg) :=
  (fX7_isPlace x1 (wi σ 60 0 0)).bind fun q1 => if q1 = 0 then some ((-1), (wi σ 60 0 0)) else (fX7_isWinter x2).bind fun q4 => if q4 = 0 then some ((-1), (wi σ 60 0 0)) else (fX7_in x3.toInt64 (-600) 600).bind fun q7 => if q7 = 0 then some ((-1), (wi σ 60 0 0)) else (fX7_isKnown x4).bind fun q10 => if q10 = 0 then some ((-1), (wi σ 60 0 0)) else (fX7_in x5.toInt64 0 1).bind fun q13 => if q13 ≠ 0 then (fX7_knowBy x4 (wi σ 60 0 0)).bind fun q16 => (fX7_noShifts  q16).bind fun q18 => (fX7_lastOf 8 12 q18).bind fun q20 => lp (fX7_often_L81 x1 x2 x3 x5 q20 ) N0 (0, 0, q18) else some ((-1), (wi σ 60 0 0))
set_option maxHeartbeats 1500000 in
theorem fX7_often_ok (x1 : Int32) (x2 : Int32) (x3 : Int32) (x4 : Int32) (x5 : Int32) (σ : Sg) (r : (Int32 × Sg)) (hf : fX7_often x1 x2 x3 x4 x5 σ = some r) : Cl true 12 12167 [.ref 60, .int x1, .int x2, .int x3, .int x4, .int x5] σ (.inl (some (.int (r).1)), (r).2) := by
  refine ⟨iX7_often, rfl, Nat.le_of_ble_eq_true rfl, Nat.le_of_ble_eq_true rfl, ?_⟩
  show Go true 12 iX7_often (0, [some (.ref 60), some (.int x1), some (.int x2), some (.int x3), some (.int x4), some (.int x5), none, none, none, none, none, none, none], [], σ) (.inl (some (.int (r).1)), (r).2)
  unfold fX7_often at hf
  refine go_n 5 (f := (7, [some (.ref 60), some (.int x1), some (.int x2), some (.int x3), some (.int x4), some (.int x5), none, none, none, none, none, none, none], [.int x1, .ref 60], (wi σ 60 0 0))) rfl ?_
  obtain ⟨q1, h2, hf⟩ := bnd hf
  refine go_c (mid := 12048) (args := [.ref 60, .int x1]) (pc := 10) (L := [some (.ref 60), some (.int x1), some (.int x2), some (.int x3), some (.int x4), some (.int x5), none, none, none, none, none, none, none]) (st := []) (σ := (wi σ 60 0 0)) rfl ((fX7_isPlace_ok _ _ q1 h2).deep (Nat.le_of_ble_eq_true rfl)) ?_
  by_cases h3 : q1 = 0
  · rw [if_pos h3] at hf
    refine go_it (t := 53) (f := 13) (L1 := [some (.ref 60), some (.int x1), some (.int x2), some (.int x3), some (.int x4), some (.int x5), none, none, none, none, none, none, none]) (st1 := []) (σ1 := (wi σ 60 0 0)) rfl h3 ?_
    refine go_e (L1 := [none, none, none, none, none, none, none, none, none, none, none, none, none]) rfl rfl ?_
    refine go_n 1 (f := (54, [none, none, none, none, none, none, none, none, none, none, none, none, none], [.int (-1)], (wi σ 60 0 0))) rfl ?_
    cases hf
    exact go_r rfl
  · rw [if_neg h3] at hf
    refine go_if (t := 53) (f := 13) (L1 := [some (.ref 60), some (.int x1), some (.int x2), some (.int x3), some (.int x4), some (.int x5), none, none, none, none, none, none, none]) (st1 := []) (σ1 := (wi σ 60 0 0)) rfl h3 ?_
    refine go_n 1 (f := (14, [some (.ref 60), some (.int x1), some (.int x2), some (.int x3), some (.int x4), some (.int x5), none, none, none, none, none, none, none], [.int x2], (wi σ 60 0 0))) rfl ?_
    obtain ⟨q4, h5, hf⟩ := bnd hf
    refine go_c (mid := 12163) (args := [.int x2]) (pc := 17) (L := [some (.ref 60), some (.int x1), some (.int x2), some (.int x3), some (.int x4), some (.int x5), none, none, none, none, none, none, none]) (st := []) (σ := (wi σ 60 0 0)) rfl ((fX7_isWinter_ok _ _ q4 h5).deep (Nat.le_of_ble_eq_true rfl)) ?_
    by_cases h6 : q4 = 0
    · rw [if_pos h6] at hf
      refine go_it (t := 53) (f := 20) (L1 := [some (.ref 60), some (.int x1), some (.int x2), some (.int x3), some (.int x4), some (.int x5), none, none, none, none, none, none, none]) (st1 := []) (σ1 := (wi σ 60 0 0)) rfl h6 ?_
      refine go_e (L1 := [none, none, none, none, none, none, none, none, none, none, none, none, none]) rfl rfl ?_
      refine go_n 1 (f := (54, [none, none, none, none, none, none, none, none, none, none, none, none, none], [.int (-1)], (wi σ 60 0 0))) rfl ?_
      cases hf
      exact go_r rfl
    · rw [if_neg h6] at hf
      refine go_if (t := 53) (f := 20) (L1 := [some (.ref 60), some (.int x1), some (.int x2), some (.int x3), some (.int x4), some (.int x5), none, none, none, none, none, none, none]) (st1 := []) (σ1 := (wi σ 60 0 0)) rfl h6 ?_
      refine go_n 4 (f := (28, [some (.ref 60), some (.int x1), some (.int x2), some (.int x3), some (.int x4), some (.int x5), none, none, none, none, none, none, none], [.long 600, .long (-600), .long x3.toInt64], (wi σ 60 0 0))) rfl ?_
      obtain ⟨q7, h8, hf⟩ := bnd hf
      refine go_c (mid := 12034) (args := [.long x3.toInt64, .long (-600), .long 600]) (pc := 31) (L := [some (.ref 60), some (.int x1), some (.int x2), some (.int x3), some (.int x4), some (.int x5), none, none, none, none, none, none, none]) (st := []) (σ := (wi σ 60 0 0)) rfl ((fX7_in_ok _ _ _ _ q7 h8).deep (Nat.le_of_ble_eq_true rfl)) ?_
      by_cases h9 : q7 = 0
      · rw [if_pos h9] at hf
        refine go_it (t := 53) (f := 34) (L1 := [some (.ref 60), some (.int x1), some (.int x2), some (.int x3), some (.int x4), some (.int x5), none, none, none, none, none, none, none]) (st1 := []) (σ1 := (wi σ 60 0 0)) rfl h9 ?_
        refine go_e (L1 := [none, none, none, none, none, none, none, none, none, none, none, none, none]) rfl rfl ?_
        refine go_n 1 (f := (54, [none, none, none, none, none, none, none, none, none, none, none, none, none], [.int (-1)], (wi σ 60 0 0))) rfl ?_
        cases hf
        exact go_r rfl
      · rw [if_neg h9] at hf
        refine go_if (t := 53) (f := 34) (L1 := [some (.ref 60), some (.int x1), some (.int x2), some (.int x3), some (.int x4), some (.int x5), none, none, none, none, none, none, none]) (st1 := []) (σ1 := (wi σ 60 0 0)) rfl h9 ?_
        refine go_n 1 (f := (36, [some (.ref 60), some (.int x1), some (.int x2), some (.int x3), some (.int x4), some (.int x5), none, none, none, none, none, none, none], [.int x4], (wi σ 60 0 0))) rfl ?_
        obtain ⟨q10, h11, hf⟩ := bnd hf
        refine go_c (mid := 12057) (args := [.int x4]) (pc := 39) (L := [some (.ref 60), some (.int x1), some (.int x2), some (.int x3), some (.int x4), some (.int x5), none, none, none, none, none, none, none]) (st := []) (σ := (wi σ 60 0 0)) rfl ((fX7_isKnown_ok _ _ q10 h11).deep (Nat.le_of_ble_eq_true rfl)) ?_
        by_cases h12 : q10 = 0
        · rw [if_pos h12] at hf
          refine go_it (t := 53) (f := 42) (L1 := [some (.ref 60), some (.int x1), some (.int x2), some (.int x3), some (.int x4), some (.int x5), none, none, none, none, none, none, none]) (st1 := []) (σ1 := (wi σ 60 0 0)) rfl h12 ?_
          refine go_e (L1 := [none, none, none, none, none, none, none, none, none, none, none, none, none]) rfl rfl ?_
          refine go_n 1 (f := (54, [none, none, none, none, none, none, none, none, none, none, none, none, none], [.int (-1)], (wi σ 60 0 0))) rfl ?_
          cases hf
          exact go_r rfl
        · rw [if_neg h12] at hf
          refine go_if (t := 53) (f := 42) (L1 := [some (.ref 60), some (.int x1), some (.int x2), some (.int x3), some (.int x4), some (.int x5), none, none, none, none, none, none, none]) (st1 := []) (σ1 := (wi σ 60 0 0)) rfl h12 ?_
          refine go_n 4 (f := (47, [some (.ref 60), some (.int x1), some (.int x2), some (.int x3), some (.int x4), some (.int x5), none, none, none, none, none, none, none], [.long 1, .long 0, .long x5.toInt64], (wi σ 60 0 0))) rfl ?_
          obtain ⟨q13, h14, hf⟩ := bnd hf
          refine go_c (mid := 12034) (args := [.long x5.toInt64, .long 0, .long 1]) (pc := 50) (L := [some (.ref 60), some (.int x1), some (.int x2), some (.int x3), some (.int x4), some (.int x5), none, none, none, none, none, none, none]) (st := []) (σ := (wi σ 60 0 0)) rfl ((fX7_in_ok _ _ _ _ q13 h14).deep (Nat.le_of_ble_eq_true rfl)) ?_
          by_cases h15 : q13 ≠ 0
          · rw [if_pos h15] at hf
            refine go_it (t := 55) (f := 53) (L1 := [some (.ref 60), some (.int x1), some (.int x2), some (.int x3), some (.int x4), some (.int x5), none, none, none, none, none, none, none]) (st1 := []) (σ1 := (wi σ 60 0 0)) rfl h15 ?_
            refine go_n 2 (f := (58, [some (.ref 60), some (.int x1), some (.int x2), some (.int x3), some (.int x4), some (.int x5), none, none, none, none, none, none, none], [.int x4, .ref 60], (wi σ 60 0 0))) rfl ?_
            obtain ⟨q16, h17, hf⟩ := bnd hf
            refine go_c (mid := 12107) (args := [.ref 60, .int x4]) (pc := 61) (L := [some (.ref 60), some (.int x1), some (.int x2), some (.int x3), some (.int x4), some (.int x5), none, none, none, none, none, none, none]) (st := []) (σ := (wi σ 60 0 0)) rfl ((fX7_knowBy_ok _ _ q16 h17).deep (Nat.le_of_ble_eq_true rfl)) ?_
            refine go_n 1 (f := (62, [some (.ref 60), some (.int x1), some (.int x2), some (.int x3), some (.int x4), some (.int x5), none, none, none, none, none, none, none], [.ref 60], q16)) rfl ?_
            obtain ⟨q18, h19, hf⟩ := bnd hf
            refine go_c (mid := 12141) (args := [.ref 60]) (pc := 65) (L := [some (.ref 60), some (.int x1), some (.int x2), some (.int x3), some (.int x4), some (.int x5), none, none, none, none, none, none, none]) (st := []) (σ := q16) rfl ((fX7_noShifts_ok _ q18 h19).deep (Nat.le_of_ble_eq_true rfl)) ?_
            refine go_n 3 (f := (70, [some (.ref 60), some (.int x1), some (.int x2), some (.int x3), some (.int x4), some (.int x5), none, none, none, none, none, none, none], [.int 12, .int 8, .ref 60], q18)) rfl ?_
            obtain ⟨q20, h21, hf⟩ := bnd hf
            refine go_c (mid := 12111) (args := [.ref 60, .int 8, .int 12]) (pc := 73) (L := [some (.ref 60), some (.int x1), some (.int x2), some (.int x3), some (.int x4), some (.int x5), none, none, none, none, none, none, none]) (st := []) (σ := q18) rfl ((fX7_lastOf_ok _ _ _ q20 h21).deep (Nat.le_of_ble_eq_true rfl)) ?_
            refine go_n 3 (f := (78, [some (.ref 60), some (.int x1), some (.int x2), some (.int x3), some (.int x4), some (.int x5), some (.int q20), some (.int 0), none, none, none, none, none], [], q18)) rfl ?_
            refine go_n 2 (f := (81, [some (.ref 60), some (.int x1), some (.int x2), some (.int x3), some (.int x4), some (.int x5), some (.int q20), some (.int 0), some (.int 0), none, none, none, none], [], q18)) rfl ?_
            refine go_e (L1 := [some (.ref 60), some (.int x1), some (.int x2), some (.int x3), none, some (.int x5), some (.int q20), some (.int 0), some (.int 0), none, none, none, none]) rfl rfl ?_
            exact fX7_often_L81_ok _ _ _ _ _   N0 _ _ _ _ hf
          · rw [if_neg h15] at hf
            refine go_if (t := 55) (f := 53) (L1 := [some (.ref 60), some (.int x1), some (.int x2), some (.int x3), some (.int x4), some (.int x5), none, none, none, none, none, none, none]) (st1 := []) (σ1 := (wi σ 60 0 0)) rfl h15 ?_
            refine go_e (L1 := [none, none, none, none, none, none, none, none, none, none, none, none, none]) rfl rfl ?_
            refine go_n 1 (f := (54, [none, none, none, none, none, none, none, none, none, none, none, none, none], [.int (-1)], (wi σ 60 0 0))) rfl ?_
            cases hf
            exact go_r rfl
/-! OldWeatherModel.plan(IIIIII)I -/
def fX7_plan_L155 (x1 : Int32) (x2 : Int32) (x3 : Int32) (x4 : Int32) (x6 : Int32)  (rec155 : (Int32 × Int32 × Int32 × Int32 × Int32 × Sg) → Option (Int32 × Sg)) (s : Int32 × Int32 × Int32 × Int32 × Int32 × Sg) : Option (Int32 × Sg) :=
  match s with
  | (x7, x8, x9, x10, x11, σ) => if ((1 : Int32) <<< ((gi σ 61 5) &&& 31)) ≤ x11 then ((fun (z28 : Int32) => some (z28, σ)) (if x6 ≠ 0 then (if x6 ≠ 1 then x9 else x8) else x7)) else (fX7_widthsBy x11 x1 x2 x3 σ).bind fun q30 => ((fun (z37 : Int32) => ((fun (z41 : Int32) (z42 : Int32) (z43 : Int32) (z44 : Int32) => rec155 (z41, z42, z43, z44, (x11 + 1), q30.2)) (if x4 < (gi q30.2 60 78) then x7 else (if x7 < 0 then x11 else (if z37 = 0 then x7 else x11))) (if x4 < (gi q30.2 60 78) then x8 else (if x7 < 0 then q30.1 else (if z37 = 0 then x8 else q30.1))) (if x4 < (gi q30.2 60 78) then x9 else (if x7 < 0 then (gi q30.2 60 78) else (if z37 = 0 then x9 else (gi q30.2 60 78)))) (if x4 < (gi q30.2 60 78) then x10 else (if x7 < 0 then (gi q30.2 60 79) else (if z37 = 0 then x10 else (gi q30.2 60 79)))))) ((if q30.1 < x8 then 1 else (if q30.1 ≠ x8 then 0 else (if (gi q30.2 60 78) < x9 then 1 else (if (gi q30.2 60 78) ≠ x9 then 0 else (if x10 ≤ (gi q30.2 60 79) then 0 else 1))))) : Int32))
set_option maxHeartbeats 1500000 in
theorem fX7_plan_L155_ok (x1 : Int32) (x2 : Int32) (x3 : Int32) (x4 : Int32) (x6 : Int32)   : ∀ (n : Nat) (x7 : Int32) (x8 : Int32) (x9 : Int32) (x10 : Int32) (x11 : Int32) (σ : Sg) (r : (Int32 × Sg)), lp (fX7_plan_L155 x1 x2 x3 x4 x6 ) n (x7, x8, x9, x10, x11, σ) = some r → Go true 12 iX7_plan (155, [some (.ref 60), some (.int x1), some (.int x2), some (.int x3), some (.int x4), none, some (.int x6), some (.int x7), some (.int x8), some (.int x9), some (.int x10), some (.int x11), none, none], [], σ) (.inl (some (.int (r).1)), (r).2) := by
  intro n
  induction n with
  | zero => intro x7 x8 x9 x10 x11 σ r hf; cases hf
  | succ n ih =>
    intro x7 x8 x9 x10 x11 σ r hf
    have hf : fX7_plan_L155 x1 x2 x3 x4 x6  (lp (fX7_plan_L155 x1 x2 x3 x4 x6 ) n) (x7, x8, x9, x10, x11, σ) = some r := hf
    have hrec155 := ih
    generalize lp (fX7_plan_L155 x1 x2 x3 x4 x6 ) n = rec155 at hf hrec155
    unfold fX7_plan_L155 at hf
    dsimp only at hf
    refine go_n 7 (f := (165, [some (.ref 60), some (.int x1), some (.int x2), some (.int x3), some (.int x4), none, some (.int x6), some (.int x7), some (.int x8), some (.int x9), some (.int x10), some (.int x11), none, none], [.int ((1 : Int32) <<< ((gi σ 61 5) &&& 31)), .int x11], σ)) rfl ?_
    by_cases h25 : ((1 : Int32) <<< ((gi σ 61 5) &&& 31)) ≤ x11
    · rw [if_pos h25] at hf
      refine go_it (t := 272) (f := 168) (L1 := [some (.ref 60), some (.int x1), some (.int x2), some (.int x3), some (.int x4), none, some (.int x6), some (.int x7), some (.int x8), some (.int x9), some (.int x10), some (.int x11), none, none]) (st1 := []) (σ1 := σ) rfl h25 ?_
      refine go_n 1 (f := (274, [some (.ref 60), some (.int x1), some (.int x2), some (.int x3), some (.int x4), none, some (.int x6), some (.int x7), some (.int x8), some (.int x9), some (.int x10), some (.int x11), none, none], [.int x6], σ)) rfl ?_
      refine go_m (f := (295, [none, none, none, none, none, none, none, none, none, none, none, none, none, none], [.int (if x6 ≠ 0 then (if x6 ≠ 1 then x9 else x8) else x7)], σ)) ?_ (fun hJ29 => ?_)
      · generalize hz28 : (if x6 ≠ 0 then (if x6 ≠ 1 then x9 else x8) else x7) = z28 at hf ⊢
        try dsimp only at hf
        cases hf
        exact go_r rfl
      · by_cases h26 : x6 ≠ 0
        · refine go_it (t := 282) (f := 277) (L1 := [some (.ref 60), some (.int x1), some (.int x2), some (.int x3), some (.int x4), none, some (.int x6), some (.int x7), some (.int x8), some (.int x9), some (.int x10), some (.int x11), none, none]) (st1 := []) (σ1 := σ) rfl h26 ?_
          refine go_n 2 (f := (285, [some (.ref 60), some (.int x1), some (.int x2), some (.int x3), some (.int x4), none, some (.int x6), some (.int x7), some (.int x8), some (.int x9), some (.int x10), some (.int x11), none, none], [.int 1, .int x6], σ)) rfl ?_
          by_cases h27 : x6 ≠ 1
          · refine go_it (t := 293) (f := 288) (L1 := [some (.ref 60), some (.int x1), some (.int x2), some (.int x3), some (.int x4), none, some (.int x6), some (.int x7), some (.int x8), some (.int x9), some (.int x10), some (.int x11), none, none]) (st1 := []) (σ1 := σ) rfl h27 ?_
            refine go_n 1 (f := (295, [some (.ref 60), some (.int x1), some (.int x2), some (.int x3), some (.int x4), none, some (.int x6), some (.int x7), some (.int x8), some (.int x9), some (.int x10), some (.int x11), none, none], [.int x9], σ)) rfl ?_
            refine go_e (L1 := [none, none, none, none, none, none, none, none, none, none, none, none, none, none]) rfl rfl ?_
            simp only [if_pos h26, if_pos h27] at hJ29
            first | exact hJ29 | (simp only [if_pos h26, if_pos h27]; exact hJ29)
          · refine go_if (t := 293) (f := 288) (L1 := [some (.ref 60), some (.int x1), some (.int x2), some (.int x3), some (.int x4), none, some (.int x6), some (.int x7), some (.int x8), some (.int x9), some (.int x10), some (.int x11), none, none]) (st1 := []) (σ1 := σ) rfl h27 ?_
            refine go_n 2 (f := (295, [some (.ref 60), some (.int x1), some (.int x2), some (.int x3), some (.int x4), none, some (.int x6), some (.int x7), some (.int x8), some (.int x9), some (.int x10), some (.int x11), none, none], [.int x8], σ)) rfl ?_
            refine go_e (L1 := [none, none, none, none, none, none, none, none, none, none, none, none, none, none]) rfl rfl ?_
            simp only [if_pos h26, if_neg h27] at hJ29
            first | exact hJ29 | (simp only [if_pos h26, if_neg h27]; exact hJ29)
        · refine go_if (t := 282) (f := 277) (L1 := [some (.ref 60), some (.int x1), some (.int x2), some (.int x3), some (.int x4), none, some (.int x6), some (.int x7), some (.int x8), some (.int x9), some (.int x10), some (.int x11), none, none]) (st1 := []) (σ1 := σ) rfl h26 ?_
          refine go_n 2 (f := (295, [some (.ref 60), some (.int x1), some (.int x2), some (.int x3), some (.int x4), none, some (.int x6), some (.int x7), some (.int x8), some (.int x9), some (.int x10), some (.int x11), none, none], [.int x7], σ)) rfl ?_
          refine go_e (L1 := [none, none, none, none, none, none, none, none, none, none, none, none, none, none]) rfl rfl ?_
          simp only [if_neg h26] at hJ29
          first | exact hJ29 | (simp only [if_neg h26]; exact hJ29)
    · rw [if_neg h25] at hf
      refine go_if (t := 272) (f := 168) (L1 := [some (.ref 60), some (.int x1), some (.int x2), some (.int x3), some (.int x4), none, some (.int x6), some (.int x7), some (.int x8), some (.int x9), some (.int x10), some (.int x11), none, none]) (st1 := []) (σ1 := σ) rfl h25 ?_
      refine go_n 5 (f := (174, [some (.ref 60), some (.int x1), some (.int x2), some (.int x3), some (.int x4), none, some (.int x6), some (.int x7), some (.int x8), some (.int x9), some (.int x10), some (.int x11), none, none], [.int x3, .int x2, .int x1, .int x11, .ref 60], σ)) rfl ?_
      obtain ⟨q30, h31, hf⟩ := bnd hf
      refine go_c (mid := 12170) (args := [.ref 60, .int x11, .int x1, .int x2, .int x3]) (pc := 177) (L := [some (.ref 60), some (.int x1), some (.int x2), some (.int x3), some (.int x4), none, some (.int x6), some (.int x7), some (.int x8), some (.int x9), some (.int x10), some (.int x11), none, none]) (st := []) (σ := σ) rfl ((fX7_widthsBy_ok _ _ _ _ _ q30 h31).deep (Nat.le_of_ble_eq_true rfl)) ?_
      refine go_n 3 (f := (183, [some (.ref 60), some (.int x1), some (.int x2), some (.int x3), some (.int x4), none, some (.int x6), some (.int x7), some (.int x8), some (.int x9), some (.int x10), some (.int x11), some (.int q30.1), none], [.int x8, .int q30.1], q30.2)) rfl ?_
      refine go_m (f := (225, [some (.ref 60), some (.int x1), some (.int x2), some (.int x3), some (.int x4), none, some (.int x6), some (.int x7), some (.int x8), some (.int x9), some (.int x10), some (.int x11), some (.int q30.1), none], [.int ((if q30.1 < x8 then 1 else (if q30.1 ≠ x8 then 0 else (if (gi q30.2 60 78) < x9 then 1 else (if (gi q30.2 60 78) ≠ x9 then 0 else (if x10 ≤ (gi q30.2 60 79) then 0 else 1))))) : Int32)], q30.2)) ?_ (fun hJ46 => ?_)
      · generalize hz37 : ((if q30.1 < x8 then 1 else (if q30.1 ≠ x8 then 0 else (if (gi q30.2 60 78) < x9 then 1 else (if (gi q30.2 60 78) ≠ x9 then 0 else (if x10 ≤ (gi q30.2 60 79) then 0 else 1))))) : Int32) = z37 at hf ⊢
        have oz37 : am_ok 3 z37 = true := hz37 ▸ (okb rfl (okb rfl (okb rfl (okb rfl (okb rfl rfl)))))
        try dsimp only at hf
        refine go_n 4 (f := (233, [some (.ref 60), some (.int x1), some (.int x2), some (.int x3), some (.int x4), none, some (.int x6), some (.int x7), some (.int x8), some (.int x9), some (.int x10), some (.int x11), some (.int q30.1), some (.int z37)], [.int x4, .int (gi q30.2 60 78)], q30.2)) rfl ?_
        refine go_m (f := (266, [some (.ref 60), some (.int x1), some (.int x2), some (.int x3), some (.int x4), none, some (.int x6), some (.int (if x4 < (gi q30.2 60 78) then x7 else (if x7 < 0 then x11 else (if z37 = 0 then x7 else x11)))), some (.int (if x4 < (gi q30.2 60 78) then x8 else (if x7 < 0 then q30.1 else (if z37 = 0 then x8 else q30.1)))), some (.int (if x4 < (gi q30.2 60 78) then x9 else (if x7 < 0 then (gi q30.2 60 78) else (if z37 = 0 then x9 else (gi q30.2 60 78))))), some (.int (if x4 < (gi q30.2 60 78) then x10 else (if x7 < 0 then (gi q30.2 60 79) else (if z37 = 0 then x10 else (gi q30.2 60 79))))), some (.int x11), none, none], [], q30.2)) ?_ (fun hJ45 => ?_)
        · generalize hz41 : (if x4 < (gi q30.2 60 78) then x7 else (if x7 < 0 then x11 else (if z37 = 0 then x7 else x11))) = z41 at hf ⊢
          generalize hz42 : (if x4 < (gi q30.2 60 78) then x8 else (if x7 < 0 then q30.1 else (if z37 = 0 then x8 else q30.1))) = z42 at hf ⊢
          generalize hz43 : (if x4 < (gi q30.2 60 78) then x9 else (if x7 < 0 then (gi q30.2 60 78) else (if z37 = 0 then x9 else (gi q30.2 60 78)))) = z43 at hf ⊢
          generalize hz44 : (if x4 < (gi q30.2 60 78) then x10 else (if x7 < 0 then (gi q30.2 60 79) else (if z37 = 0 then x10 else (gi q30.2 60 79)))) = z44 at hf ⊢
          try dsimp only at hf
          refine go_n 2 (f := (155, [some (.ref 60), some (.int x1), some (.int x2), some (.int x3), some (.int x4), none, some (.int x6), some (.int z41), some (.int z42), some (.int z43), some (.int z44), some (.int (x11 + 1)), none, none], [], q30.2)) rfl ?_
          exact hrec155 _ _ _ _ _ _ _ hf
        · by_cases h38 : x4 < (gi q30.2 60 78)
          · refine go_it (t := 266) (f := 236) (L1 := [some (.ref 60), some (.int x1), some (.int x2), some (.int x3), some (.int x4), none, some (.int x6), some (.int x7), some (.int x8), some (.int x9), some (.int x10), some (.int x11), some (.int q30.1), some (.int z37)]) (st1 := []) (σ1 := q30.2) rfl h38 ?_
            refine go_e (L1 := [some (.ref 60), some (.int x1), some (.int x2), some (.int x3), some (.int x4), none, some (.int x6), some (.int x7), some (.int x8), some (.int x9), some (.int x10), some (.int x11), none, none]) rfl rfl ?_
            simp only [if_pos h38] at hJ45
            first | exact hJ45 | (simp only [if_pos h38]; exact hJ45)
          · refine go_if (t := 266) (f := 236) (L1 := [some (.ref 60), some (.int x1), some (.int x2), some (.int x3), some (.int x4), none, some (.int x6), some (.int x7), some (.int x8), some (.int x9), some (.int x10), some (.int x11), some (.int q30.1), some (.int z37)]) (st1 := []) (σ1 := q30.2) rfl h38 ?_
            refine go_n 1 (f := (238, [some (.ref 60), some (.int x1), some (.int x2), some (.int x3), some (.int x4), none, some (.int x6), some (.int x7), some (.int x8), some (.int x9), some (.int x10), some (.int x11), some (.int q30.1), some (.int z37)], [.int x7], q30.2)) rfl ?_
            by_cases h39 : x7 < 0
            · refine go_it (t := 246) (f := 241) (L1 := [some (.ref 60), some (.int x1), some (.int x2), some (.int x3), some (.int x4), none, some (.int x6), some (.int x7), some (.int x8), some (.int x9), some (.int x10), some (.int x11), some (.int q30.1), some (.int z37)]) (st1 := []) (σ1 := q30.2) rfl h39 ?_
              refine go_e (L1 := [some (.ref 60), some (.int x1), some (.int x2), some (.int x3), some (.int x4), none, some (.int x6), none, none, none, none, some (.int x11), some (.int q30.1), none]) rfl rfl ?_
              refine go_n 4 (f := (254, [some (.ref 60), some (.int x1), some (.int x2), some (.int x3), some (.int x4), none, some (.int x6), some (.int x11), some (.int q30.1), none, none, some (.int x11), some (.int q30.1), none], [], q30.2)) rfl ?_
              refine go_n 6 (f := (266, [some (.ref 60), some (.int x1), some (.int x2), some (.int x3), some (.int x4), none, some (.int x6), some (.int x11), some (.int q30.1), some (.int (gi q30.2 60 78)), some (.int (gi q30.2 60 79)), some (.int x11), some (.int q30.1), none], [], q30.2)) rfl ?_
              refine go_e (L1 := [some (.ref 60), some (.int x1), some (.int x2), some (.int x3), some (.int x4), none, some (.int x6), some (.int x11), some (.int q30.1), some (.int (gi q30.2 60 78)), some (.int (gi q30.2 60 79)), some (.int x11), none, none]) rfl rfl ?_
              simp only [if_neg h38, if_pos h39] at hJ45
              first | exact hJ45 | (simp only [if_neg h38, if_pos h39]; exact hJ45)
            · refine go_if (t := 246) (f := 241) (L1 := [some (.ref 60), some (.int x1), some (.int x2), some (.int x3), some (.int x4), none, some (.int x6), some (.int x7), some (.int x8), some (.int x9), some (.int x10), some (.int x11), some (.int q30.1), some (.int z37)]) (st1 := []) (σ1 := q30.2) rfl h39 ?_
              refine go_n 1 (f := (243, [some (.ref 60), some (.int x1), some (.int x2), some (.int x3), some (.int x4), none, some (.int x6), some (.int x7), some (.int x8), some (.int x9), some (.int x10), some (.int x11), some (.int q30.1), some (.int z37)], [.int z37], q30.2)) rfl ?_
              by_cases h40 : z37 = 0
              · refine go_it (t := 266) (f := 246) (L1 := [some (.ref 60), some (.int x1), some (.int x2), some (.int x3), some (.int x4), none, some (.int x6), some (.int x7), some (.int x8), some (.int x9), some (.int x10), some (.int x11), some (.int q30.1), some (.int z37)]) (st1 := []) (σ1 := q30.2) rfl h40 ?_
                refine go_e (L1 := [some (.ref 60), some (.int x1), some (.int x2), some (.int x3), some (.int x4), none, some (.int x6), some (.int x7), some (.int x8), some (.int x9), some (.int x10), some (.int x11), none, none]) rfl rfl ?_
                simp only [if_neg h38, if_neg h39, if_pos h40] at hJ45
                first | exact hJ45 | (simp only [if_neg h38, if_neg h39, if_pos h40]; exact hJ45)
              · refine go_if (t := 266) (f := 246) (L1 := [some (.ref 60), some (.int x1), some (.int x2), some (.int x3), some (.int x4), none, some (.int x6), some (.int x7), some (.int x8), some (.int x9), some (.int x10), some (.int x11), some (.int q30.1), some (.int z37)]) (st1 := []) (σ1 := q30.2) rfl h40 ?_
                refine go_e (L1 := [some (.ref 60), some (.int x1), some (.int x2), some (.int x3), some (.int x4), none, some (.int x6), none, none, none, none, some (.int x11), some (.int q30.1), none]) rfl rfl ?_
                refine go_n 4 (f := (254, [some (.ref 60), some (.int x1), some (.int x2), some (.int x3), some (.int x4), none, some (.int x6), some (.int x11), some (.int q30.1), none, none, some (.int x11), some (.int q30.1), none], [], q30.2)) rfl ?_
                refine go_n 6 (f := (266, [some (.ref 60), some (.int x1), some (.int x2), some (.int x3), some (.int x4), none, some (.int x6), some (.int x11), some (.int q30.1), some (.int (gi q30.2 60 78)), some (.int (gi q30.2 60 79)), some (.int x11), some (.int q30.1), none], [], q30.2)) rfl ?_
                refine go_e (L1 := [some (.ref 60), some (.int x1), some (.int x2), some (.int x3), some (.int x4), none, some (.int x6), some (.int x11), some (.int q30.1), some (.int (gi q30.2 60 78)), some (.int (gi q30.2 60 79)), some (.int x11), none, none]) rfl rfl ?_
                simp only [if_neg h38, if_neg h39, if_neg h40] at hJ45
                first | exact hJ45 | (simp only [if_neg h38, if_neg h39, if_neg h40]; exact hJ45)
      · by_cases h32 : q30.1 < x8
        · refine go_it (t := 220) (f := 186) (L1 := [some (.ref 60), some (.int x1), some (.int x2), some (.int x3), some (.int x4), none, some (.int x6), some (.int x7), some (.int x8), some (.int x9), some (.int x10), some (.int x11), some (.int q30.1), none]) (st1 := []) (σ1 := q30.2) rfl h32 ?_
          refine go_n 2 (f := (225, [some (.ref 60), some (.int x1), some (.int x2), some (.int x3), some (.int x4), none, some (.int x6), some (.int x7), some (.int x8), some (.int x9), some (.int x10), some (.int x11), some (.int q30.1), none], [.int 1], q30.2)) rfl ?_
          refine go_e (L1 := [some (.ref 60), some (.int x1), some (.int x2), some (.int x3), some (.int x4), none, some (.int x6), some (.int x7), some (.int x8), some (.int x9), some (.int x10), some (.int x11), some (.int q30.1), none]) rfl rfl ?_
          simp only [if_pos h32] at hJ46
          first | exact hJ46 | (simp only [if_pos h32]; exact hJ46)
        · refine go_if (t := 220) (f := 186) (L1 := [some (.ref 60), some (.int x1), some (.int x2), some (.int x3), some (.int x4), none, some (.int x6), some (.int x7), some (.int x8), some (.int x9), some (.int x10), some (.int x11), some (.int q30.1), none]) (st1 := []) (σ1 := q30.2) rfl h32 ?_
          refine go_n 2 (f := (190, [some (.ref 60), some (.int x1), some (.int x2), some (.int x3), some (.int x4), none, some (.int x6), some (.int x7), some (.int x8), some (.int x9), some (.int x10), some (.int x11), some (.int q30.1), none], [.int x8, .int q30.1], q30.2)) rfl ?_
          by_cases h33 : q30.1 ≠ x8
          · refine go_it (t := 224) (f := 193) (L1 := [some (.ref 60), some (.int x1), some (.int x2), some (.int x3), some (.int x4), none, some (.int x6), some (.int x7), some (.int x8), some (.int x9), some (.int x10), some (.int x11), some (.int q30.1), none]) (st1 := []) (σ1 := q30.2) rfl h33 ?_
            refine go_n 1 (f := (225, [some (.ref 60), some (.int x1), some (.int x2), some (.int x3), some (.int x4), none, some (.int x6), some (.int x7), some (.int x8), some (.int x9), some (.int x10), some (.int x11), some (.int q30.1), none], [.int 0], q30.2)) rfl ?_
            refine go_e (L1 := [some (.ref 60), some (.int x1), some (.int x2), some (.int x3), some (.int x4), none, some (.int x6), some (.int x7), some (.int x8), some (.int x9), some (.int x10), some (.int x11), some (.int q30.1), none]) rfl rfl ?_
            simp only [if_neg h32, if_pos h33] at hJ46
            first | exact hJ46 | (simp only [if_neg h32, if_pos h33]; exact hJ46)
          · refine go_if (t := 224) (f := 193) (L1 := [some (.ref 60), some (.int x1), some (.int x2), some (.int x3), some (.int x4), none, some (.int x6), some (.int x7), some (.int x8), some (.int x9), some (.int x10), some (.int x11), some (.int q30.1), none]) (st1 := []) (σ1 := q30.2) rfl h33 ?_
            refine go_n 3 (f := (199, [some (.ref 60), some (.int x1), some (.int x2), some (.int x3), some (.int x4), none, some (.int x6), some (.int x7), some (.int x8), some (.int x9), some (.int x10), some (.int x11), some (.int q30.1), none], [.int x9, .int (gi q30.2 60 78)], q30.2)) rfl ?_
            by_cases h34 : (gi q30.2 60 78) < x9
            · refine go_it (t := 220) (f := 202) (L1 := [some (.ref 60), some (.int x1), some (.int x2), some (.int x3), some (.int x4), none, some (.int x6), some (.int x7), some (.int x8), some (.int x9), some (.int x10), some (.int x11), some (.int q30.1), none]) (st1 := []) (σ1 := q30.2) rfl h34 ?_
              refine go_n 2 (f := (225, [some (.ref 60), some (.int x1), some (.int x2), some (.int x3), some (.int x4), none, some (.int x6), some (.int x7), some (.int x8), some (.int x9), some (.int x10), some (.int x11), some (.int q30.1), none], [.int 1], q30.2)) rfl ?_
              refine go_e (L1 := [some (.ref 60), some (.int x1), some (.int x2), some (.int x3), some (.int x4), none, some (.int x6), some (.int x7), some (.int x8), some (.int x9), some (.int x10), some (.int x11), some (.int q30.1), none]) rfl rfl ?_
              simp only [if_neg h32, if_neg h33, if_pos h34] at hJ46
              first | exact hJ46 | (simp only [if_neg h32, if_neg h33, if_pos h34]; exact hJ46)
            · refine go_if (t := 220) (f := 202) (L1 := [some (.ref 60), some (.int x1), some (.int x2), some (.int x3), some (.int x4), none, some (.int x6), some (.int x7), some (.int x8), some (.int x9), some (.int x10), some (.int x11), some (.int q30.1), none]) (st1 := []) (σ1 := q30.2) rfl h34 ?_
              refine go_n 3 (f := (208, [some (.ref 60), some (.int x1), some (.int x2), some (.int x3), some (.int x4), none, some (.int x6), some (.int x7), some (.int x8), some (.int x9), some (.int x10), some (.int x11), some (.int q30.1), none], [.int x9, .int (gi q30.2 60 78)], q30.2)) rfl ?_
              by_cases h35 : (gi q30.2 60 78) ≠ x9
              · refine go_it (t := 224) (f := 211) (L1 := [some (.ref 60), some (.int x1), some (.int x2), some (.int x3), some (.int x4), none, some (.int x6), some (.int x7), some (.int x8), some (.int x9), some (.int x10), some (.int x11), some (.int q30.1), none]) (st1 := []) (σ1 := q30.2) rfl h35 ?_
                refine go_n 1 (f := (225, [some (.ref 60), some (.int x1), some (.int x2), some (.int x3), some (.int x4), none, some (.int x6), some (.int x7), some (.int x8), some (.int x9), some (.int x10), some (.int x11), some (.int q30.1), none], [.int 0], q30.2)) rfl ?_
                refine go_e (L1 := [some (.ref 60), some (.int x1), some (.int x2), some (.int x3), some (.int x4), none, some (.int x6), some (.int x7), some (.int x8), some (.int x9), some (.int x10), some (.int x11), some (.int q30.1), none]) rfl rfl ?_
                simp only [if_neg h32, if_neg h33, if_neg h34, if_pos h35] at hJ46
                first | exact hJ46 | (simp only [if_neg h32, if_neg h33, if_neg h34, if_pos h35]; exact hJ46)
              · refine go_if (t := 224) (f := 211) (L1 := [some (.ref 60), some (.int x1), some (.int x2), some (.int x3), some (.int x4), none, some (.int x6), some (.int x7), some (.int x8), some (.int x9), some (.int x10), some (.int x11), some (.int q30.1), none]) (st1 := []) (σ1 := q30.2) rfl h35 ?_
                refine go_n 3 (f := (217, [some (.ref 60), some (.int x1), some (.int x2), some (.int x3), some (.int x4), none, some (.int x6), some (.int x7), some (.int x8), some (.int x9), some (.int x10), some (.int x11), some (.int q30.1), none], [.int x10, .int (gi q30.2 60 79)], q30.2)) rfl ?_
                by_cases h36 : x10 ≤ (gi q30.2 60 79)
                · refine go_it (t := 224) (f := 220) (L1 := [some (.ref 60), some (.int x1), some (.int x2), some (.int x3), some (.int x4), none, some (.int x6), some (.int x7), some (.int x8), some (.int x9), some (.int x10), some (.int x11), some (.int q30.1), none]) (st1 := []) (σ1 := q30.2) rfl h36 ?_
                  refine go_n 1 (f := (225, [some (.ref 60), some (.int x1), some (.int x2), some (.int x3), some (.int x4), none, some (.int x6), some (.int x7), some (.int x8), some (.int x9), some (.int x10), some (.int x11), some (.int q30.1), none], [.int 0], q30.2)) rfl ?_
                  refine go_e (L1 := [some (.ref 60), some (.int x1), some (.int x2), some (.int x3), some (.int x4), none, some (.int x6), some (.int x7), some (.int x8), some (.int x9), some (.int x10), some (.int x11), some (.int q30.1), none]) rfl rfl ?_
                  simp only [if_neg h32, if_neg h33, if_neg h34, if_neg h35, if_pos h36] at hJ46
                  first | exact hJ46 | (simp only [if_neg h32, if_neg h33, if_neg h34, if_neg h35, if_pos h36]; exact hJ46)
                · refine go_if (t := 224) (f := 220) (L1 := [some (.ref 60), some (.int x1), some (.int x2), some (.int x3), some (.int x4), none, some (.int x6), some (.int x7), some (.int x8), some (.int x9), some (.int x10), some (.int x11), some (.int q30.1), none]) (st1 := []) (σ1 := q30.2) rfl h36 ?_
                  refine go_n 2 (f := (225, [some (.ref 60), some (.int x1), some (.int x2), some (.int x3), some (.int x4), none, some (.int x6), some (.int x7), some (.int x8), some (.int x9), some (.int x10), some (.int x11), some (.int q30.1), none], [.int 1], q30.2)) rfl ?_
                  refine go_e (L1 := [some (.ref 60), some (.int x1), some (.int x2), some (.int x3), some (.int x4), none, some (.int x6), some (.int x7), some (.int x8), some (.int x9), some (.int x10), some (.int x11), some (.int q30.1), none]) rfl rfl ?_
                  simp only [if_neg h32, if_neg h33, if_neg h34, if_neg h35, if_neg h36] at hJ46
                  first | exact hJ46 | (simp only [if_neg h32, if_neg h33, if_neg h34, if_neg h35, if_neg h36]; exact hJ46)
def fX7_plan_L88 (x1 : Int32) (x2 : Int32) (x3 : Int32) (x4 : Int32) (x6 : Int32)  (rec88 : (Int32 × Sg) → Option (Int32 × Sg)) (s : Int32 × Sg) : Option (Int32 × Sg) :=
  match s with
  | (x7, σ) => if x3 < x7 then lp (fX7_plan_L155 x1 x2 x3 x4 x6 ) N0 ((-1), 0, 0, 0, 0, σ) else (fX7_join x1 x7 σ).bind fun q47 => ((fun (z50 : Int32) => if inb (x7 - x2) 60 then rec88 ((x7 + 1), (wi q47 92 (x7 - x2).toNatClampNeg z50)) else none) (if (gi q47 60 57) ≤ (gi q47 60 56) then 0 else ((gi q47 60 57) - (gi q47 60 56))))
set_option maxHeartbeats 1500000 in
theorem fX7_plan_L88_ok (x1 : Int32) (x2 : Int32) (x3 : Int32) (x4 : Int32) (x6 : Int32)   : ∀ (n : Nat) (x7 : Int32) (σ : Sg) (r : (Int32 × Sg)), lp (fX7_plan_L88 x1 x2 x3 x4 x6 ) n (x7, σ) = some r → Go true 12 iX7_plan (88, [some (.ref 60), some (.int x1), some (.int x2), some (.int x3), some (.int x4), none, some (.int x6), some (.int x7), none, none, none, none, none, none], [], σ) (.inl (some (.int (r).1)), (r).2) := by
  intro n
  induction n with
  | zero => intro x7 σ r hf; cases hf
  | succ n ih =>
    intro x7 σ r hf
    have hf : fX7_plan_L88 x1 x2 x3 x4 x6  (lp (fX7_plan_L88 x1 x2 x3 x4 x6 ) n) (x7, σ) = some r := hf
    have hrec88 := ih
    generalize lp (fX7_plan_L88 x1 x2 x3 x4 x6 ) n = rec88 at hf hrec88
    unfold fX7_plan_L88 at hf
    dsimp only at hf
    refine go_n 2 (f := (91, [some (.ref 60), some (.int x1), some (.int x2), some (.int x3), some (.int x4), none, some (.int x6), some (.int x7), none, none, none, none, none, none], [.int x3, .int x7], σ)) rfl ?_
    by_cases h24 : x3 < x7
    · rw [if_pos h24] at hf
      refine go_it (t := 140) (f := 94) (L1 := [some (.ref 60), some (.int x1), some (.int x2), some (.int x3), some (.int x4), none, some (.int x6), some (.int x7), none, none, none, none, none, none]) (st1 := []) (σ1 := σ) rfl h24 ?_
      refine go_n 4 (f := (146, [some (.ref 60), some (.int x1), some (.int x2), some (.int x3), some (.int x4), none, some (.int x6), some (.int (-1)), some (.int 0), none, none, none, none, none], [], σ)) rfl ?_
      refine go_n 4 (f := (152, [some (.ref 60), some (.int x1), some (.int x2), some (.int x3), some (.int x4), none, some (.int x6), some (.int (-1)), some (.int 0), some (.int 0), some (.int 0), none, none, none], [], σ)) rfl ?_
      refine go_n 2 (f := (155, [some (.ref 60), some (.int x1), some (.int x2), some (.int x3), some (.int x4), none, some (.int x6), some (.int (-1)), some (.int 0), some (.int 0), some (.int 0), some (.int 0), none, none], [], σ)) rfl ?_
      exact fX7_plan_L155_ok _ _ _ _ _   N0 _ _ _ _ _ _ _ hf
    · rw [if_neg h24] at hf
      refine go_if (t := 140) (f := 94) (L1 := [some (.ref 60), some (.int x1), some (.int x2), some (.int x3), some (.int x4), none, some (.int x6), some (.int x7), none, none, none, none, none, none]) (st1 := []) (σ1 := σ) rfl h24 ?_
      refine go_n 3 (f := (98, [some (.ref 60), some (.int x1), some (.int x2), some (.int x3), some (.int x4), none, some (.int x6), some (.int x7), none, none, none, none, none, none], [.int x7, .int x1, .ref 60], σ)) rfl ?_
      obtain ⟨q47, h48, hf⟩ := bnd hf
      refine go_c (mid := 12142) (args := [.ref 60, .int x1, .int x7]) (pc := 101) (L := [some (.ref 60), some (.int x1), some (.int x2), some (.int x3), some (.int x4), none, some (.int x6), some (.int x7), none, none, none, none, none, none]) (st := []) (σ := σ) rfl ((fX7_join_ok _ _ _ q47 h48).deep (Nat.le_of_ble_eq_true rfl)) ?_
      refine go_n 9 (f := (117, [some (.ref 60), some (.int x1), some (.int x2), some (.int x3), some (.int x4), none, some (.int x6), some (.int x7), none, none, none, none, none, none], [.int (gi q47 60 56), .int (gi q47 60 57), .int (x7 - x2), .ref 92], q47)) rfl ?_
      refine go_m (f := (133, [some (.ref 60), some (.int x1), some (.int x2), some (.int x3), some (.int x4), none, some (.int x6), some (.int x7), none, none, none, none, none, none], [.int (if (gi q47 60 57) ≤ (gi q47 60 56) then 0 else ((gi q47 60 57) - (gi q47 60 56))), .int (x7 - x2), .ref 92], q47)) ?_ (fun hJ52 => ?_)
      · generalize hz50 : (if (gi q47 60 57) ≤ (gi q47 60 56) then 0 else ((gi q47 60 57) - (gi q47 60 56))) = z50 at hf ⊢
        try dsimp only at hf
        obtain ⟨h51, hf⟩ := grd hf
        refine go_iast rfl rfl rfl h51 ?_
        refine go_n 2 (f := (88, [some (.ref 60), some (.int x1), some (.int x2), some (.int x3), some (.int x4), none, some (.int x6), some (.int (x7 + 1)), none, none, none, none, none, none], [], (wi q47 92 (x7 - x2).toNatClampNeg z50))) rfl ?_
        exact hrec88 _ _ _ hf
      · by_cases h49 : (gi q47 60 57) ≤ (gi q47 60 56)
        · refine go_it (t := 132) (f := 120) (L1 := [some (.ref 60), some (.int x1), some (.int x2), some (.int x3), some (.int x4), none, some (.int x6), some (.int x7), none, none, none, none, none, none]) (st1 := [.int (x7 - x2), .ref 92]) (σ1 := q47) rfl h49 ?_
          refine go_n 1 (f := (133, [some (.ref 60), some (.int x1), some (.int x2), some (.int x3), some (.int x4), none, some (.int x6), some (.int x7), none, none, none, none, none, none], [.int 0, .int (x7 - x2), .ref 92], q47)) rfl ?_
          refine go_e (L1 := [some (.ref 60), some (.int x1), some (.int x2), some (.int x3), some (.int x4), none, some (.int x6), some (.int x7), none, none, none, none, none, none]) rfl rfl ?_
          simp only [if_pos h49] at hJ52
          first | exact hJ52 | (simp only [if_pos h49]; exact hJ52)
        · refine go_if (t := 132) (f := 120) (L1 := [some (.ref 60), some (.int x1), some (.int x2), some (.int x3), some (.int x4), none, some (.int x6), some (.int x7), none, none, none, none, none, none]) (st1 := [.int (x7 - x2), .ref 92]) (σ1 := q47) rfl h49 ?_
          refine go_n 6 (f := (133, [some (.ref 60), some (.int x1), some (.int x2), some (.int x3), some (.int x4), none, some (.int x6), some (.int x7), none, none, none, none, none, none], [.int ((gi q47 60 57) - (gi q47 60 56)), .int (x7 - x2), .ref 92], q47)) rfl ?_
          refine go_e (L1 := [some (.ref 60), some (.int x1), some (.int x2), some (.int x3), some (.int x4), none, some (.int x6), some (.int x7), none, none, none, none, none, none]) rfl rfl ?_
          simp only [if_neg h49] at hJ52
          first | exact hJ52 | (simp only [if_neg h49]; exact hJ52)
def fX7_plan (x1 : Int32) (x2 : Int32) (x3 : Int32) (x4 : Int32) (x5 : Int32) (x6 : Int32) (σ : Sg) : Option (Int32 × Sg) :=
  (fX7_isPlace x1 (wi σ 60 0 0)).bind fun q1 => if q1 = 0 then some ((-1), (wi σ 60 0 0)) else (fX7_isDay x3).bind fun q4 => if q4 = 0 then some ((-1), (wi σ 60 0 0)) else (fX7_in x2.toInt64 0 x3.toInt64).bind fun q7 => if q7 = 0 then some ((-1), (wi σ 60 0 0)) else if 60 ≤ (x3 - x2) then some ((-1), (wi σ 60 0 0)) else (fX7_in x4.toInt64 0 500).bind fun q11 => if q11 = 0 then some ((-1), (wi σ 60 0 0)) else (fX7_isKnown x5).bind fun q14 => if q14 = 0 then some ((-1), (wi σ 60 0 0)) else (fX7_in x6.toInt64 0 2).bind fun q17 => if q17 ≠ 0 then (fX7_knowBy x5 (wi σ 60 0 0)).bind fun q20 => (fX7_noShifts  q20).bind fun q22 => lp (fX7_plan_L88 x1 x2 x3 x4 x6 ) N0 (x2, q22) else some ((-1), (wi σ 60 0 0))
set_option maxHeartbeats 1500000 in
theorem fX7_plan_ok (x1 : Int32) (x2 : Int32) (x3 : Int32) (x4 : Int32) (x5 : Int32) (x6 : Int32) (σ : Sg) (r : (Int32 × Sg)) (hf : fX7_plan x1 x2 x3 x4 x5 x6 σ = some r) : Cl true 12 12169 [.ref 60, .int x1, .int x2, .int x3, .int x4, .int x5, .int x6] σ (.inl (some (.int (r).1)), (r).2) := by
  refine ⟨iX7_plan, rfl, Nat.le_of_ble_eq_true rfl, Nat.le_of_ble_eq_true rfl, ?_⟩
  show Go true 12 iX7_plan (0, [some (.ref 60), some (.int x1), some (.int x2), some (.int x3), some (.int x4), some (.int x5), some (.int x6), none, none, none, none, none, none, none], [], σ) (.inl (some (.int (r).1)), (r).2)
  unfold fX7_plan at hf
  refine go_n 5 (f := (7, [some (.ref 60), some (.int x1), some (.int x2), some (.int x3), some (.int x4), some (.int x5), some (.int x6), none, none, none, none, none, none, none], [.int x1, .ref 60], (wi σ 60 0 0))) rfl ?_
  obtain ⟨q1, h2, hf⟩ := bnd hf
  refine go_c (mid := 12048) (args := [.ref 60, .int x1]) (pc := 10) (L := [some (.ref 60), some (.int x1), some (.int x2), some (.int x3), some (.int x4), some (.int x5), some (.int x6), none, none, none, none, none, none, none]) (st := []) (σ := (wi σ 60 0 0)) rfl ((fX7_isPlace_ok _ _ q1 h2).deep (Nat.le_of_ble_eq_true rfl)) ?_
  by_cases h3 : q1 = 0
  · rw [if_pos h3] at hf
    refine go_it (t := 73) (f := 13) (L1 := [some (.ref 60), some (.int x1), some (.int x2), some (.int x3), some (.int x4), some (.int x5), some (.int x6), none, none, none, none, none, none, none]) (st1 := []) (σ1 := (wi σ 60 0 0)) rfl h3 ?_
    refine go_e (L1 := [none, none, none, none, none, none, none, none, none, none, none, none, none, none]) rfl rfl ?_
    refine go_n 1 (f := (74, [none, none, none, none, none, none, none, none, none, none, none, none, none, none], [.int (-1)], (wi σ 60 0 0))) rfl ?_
    cases hf
    exact go_r rfl
  · rw [if_neg h3] at hf
    refine go_if (t := 73) (f := 13) (L1 := [some (.ref 60), some (.int x1), some (.int x2), some (.int x3), some (.int x4), some (.int x5), some (.int x6), none, none, none, none, none, none, none]) (st1 := []) (σ1 := (wi σ 60 0 0)) rfl h3 ?_
    refine go_n 1 (f := (14, [some (.ref 60), some (.int x1), some (.int x2), some (.int x3), some (.int x4), some (.int x5), some (.int x6), none, none, none, none, none, none, none], [.int x3], (wi σ 60 0 0))) rfl ?_
    obtain ⟨q4, h5, hf⟩ := bnd hf
    refine go_c (mid := 12042) (args := [.int x3]) (pc := 17) (L := [some (.ref 60), some (.int x1), some (.int x2), some (.int x3), some (.int x4), some (.int x5), some (.int x6), none, none, none, none, none, none, none]) (st := []) (σ := (wi σ 60 0 0)) rfl ((fX7_isDay_ok _ _ q4 h5).deep (Nat.le_of_ble_eq_true rfl)) ?_
    by_cases h6 : q4 = 0
    · rw [if_pos h6] at hf
      refine go_it (t := 73) (f := 20) (L1 := [some (.ref 60), some (.int x1), some (.int x2), some (.int x3), some (.int x4), some (.int x5), some (.int x6), none, none, none, none, none, none, none]) (st1 := []) (σ1 := (wi σ 60 0 0)) rfl h6 ?_
      refine go_e (L1 := [none, none, none, none, none, none, none, none, none, none, none, none, none, none]) rfl rfl ?_
      refine go_n 1 (f := (74, [none, none, none, none, none, none, none, none, none, none, none, none, none, none], [.int (-1)], (wi σ 60 0 0))) rfl ?_
      cases hf
      exact go_r rfl
    · rw [if_neg h6] at hf
      refine go_if (t := 73) (f := 20) (L1 := [some (.ref 60), some (.int x1), some (.int x2), some (.int x3), some (.int x4), some (.int x5), some (.int x6), none, none, none, none, none, none, none]) (st1 := []) (σ1 := (wi σ 60 0 0)) rfl h6 ?_
      refine go_n 5 (f := (25, [some (.ref 60), some (.int x1), some (.int x2), some (.int x3), some (.int x4), some (.int x5), some (.int x6), none, none, none, none, none, none, none], [.long x3.toInt64, .long 0, .long x2.toInt64], (wi σ 60 0 0))) rfl ?_
      obtain ⟨q7, h8, hf⟩ := bnd hf
      refine go_c (mid := 12034) (args := [.long x2.toInt64, .long 0, .long x3.toInt64]) (pc := 28) (L := [some (.ref 60), some (.int x1), some (.int x2), some (.int x3), some (.int x4), some (.int x5), some (.int x6), none, none, none, none, none, none, none]) (st := []) (σ := (wi σ 60 0 0)) rfl ((fX7_in_ok _ _ _ _ q7 h8).deep (Nat.le_of_ble_eq_true rfl)) ?_
      by_cases h9 : q7 = 0
      · rw [if_pos h9] at hf
        refine go_it (t := 73) (f := 31) (L1 := [some (.ref 60), some (.int x1), some (.int x2), some (.int x3), some (.int x4), some (.int x5), some (.int x6), none, none, none, none, none, none, none]) (st1 := []) (σ1 := (wi σ 60 0 0)) rfl h9 ?_
        refine go_e (L1 := [none, none, none, none, none, none, none, none, none, none, none, none, none, none]) rfl rfl ?_
        refine go_n 1 (f := (74, [none, none, none, none, none, none, none, none, none, none, none, none, none, none], [.int (-1)], (wi σ 60 0 0))) rfl ?_
        cases hf
        exact go_r rfl
      · rw [if_neg h9] at hf
        refine go_if (t := 73) (f := 31) (L1 := [some (.ref 60), some (.int x1), some (.int x2), some (.int x3), some (.int x4), some (.int x5), some (.int x6), none, none, none, none, none, none, none]) (st1 := []) (σ1 := (wi σ 60 0 0)) rfl h9 ?_
        refine go_n 4 (f := (36, [some (.ref 60), some (.int x1), some (.int x2), some (.int x3), some (.int x4), some (.int x5), some (.int x6), none, none, none, none, none, none, none], [.int 60, .int (x3 - x2)], (wi σ 60 0 0))) rfl ?_
        by_cases h10 : 60 ≤ (x3 - x2)
        · rw [if_pos h10] at hf
          refine go_it (t := 73) (f := 39) (L1 := [some (.ref 60), some (.int x1), some (.int x2), some (.int x3), some (.int x4), some (.int x5), some (.int x6), none, none, none, none, none, none, none]) (st1 := []) (σ1 := (wi σ 60 0 0)) rfl h10 ?_
          refine go_e (L1 := [none, none, none, none, none, none, none, none, none, none, none, none, none, none]) rfl rfl ?_
          refine go_n 1 (f := (74, [none, none, none, none, none, none, none, none, none, none, none, none, none, none], [.int (-1)], (wi σ 60 0 0))) rfl ?_
          cases hf
          exact go_r rfl
        · rw [if_neg h10] at hf
          refine go_if (t := 73) (f := 39) (L1 := [some (.ref 60), some (.int x1), some (.int x2), some (.int x3), some (.int x4), some (.int x5), some (.int x6), none, none, none, none, none, none, none]) (st1 := []) (σ1 := (wi σ 60 0 0)) rfl h10 ?_
          refine go_n 4 (f := (46, [some (.ref 60), some (.int x1), some (.int x2), some (.int x3), some (.int x4), some (.int x5), some (.int x6), none, none, none, none, none, none, none], [.long 500, .long 0, .long x4.toInt64], (wi σ 60 0 0))) rfl ?_
          obtain ⟨q11, h12, hf⟩ := bnd hf
          refine go_c (mid := 12034) (args := [.long x4.toInt64, .long 0, .long 500]) (pc := 49) (L := [some (.ref 60), some (.int x1), some (.int x2), some (.int x3), some (.int x4), some (.int x5), some (.int x6), none, none, none, none, none, none, none]) (st := []) (σ := (wi σ 60 0 0)) rfl ((fX7_in_ok _ _ _ _ q11 h12).deep (Nat.le_of_ble_eq_true rfl)) ?_
          by_cases h13 : q11 = 0
          · rw [if_pos h13] at hf
            refine go_it (t := 73) (f := 52) (L1 := [some (.ref 60), some (.int x1), some (.int x2), some (.int x3), some (.int x4), some (.int x5), some (.int x6), none, none, none, none, none, none, none]) (st1 := []) (σ1 := (wi σ 60 0 0)) rfl h13 ?_
            refine go_e (L1 := [none, none, none, none, none, none, none, none, none, none, none, none, none, none]) rfl rfl ?_
            refine go_n 1 (f := (74, [none, none, none, none, none, none, none, none, none, none, none, none, none, none], [.int (-1)], (wi σ 60 0 0))) rfl ?_
            cases hf
            exact go_r rfl
          · rw [if_neg h13] at hf
            refine go_if (t := 73) (f := 52) (L1 := [some (.ref 60), some (.int x1), some (.int x2), some (.int x3), some (.int x4), some (.int x5), some (.int x6), none, none, none, none, none, none, none]) (st1 := []) (σ1 := (wi σ 60 0 0)) rfl h13 ?_
            refine go_n 1 (f := (54, [some (.ref 60), some (.int x1), some (.int x2), some (.int x3), some (.int x4), some (.int x5), some (.int x6), none, none, none, none, none, none, none], [.int x5], (wi σ 60 0 0))) rfl ?_
            obtain ⟨q14, h15, hf⟩ := bnd hf
            refine go_c (mid := 12057) (args := [.int x5]) (pc := 57) (L := [some (.ref 60), some (.int x1), some (.int x2), some (.int x3), some (.int x4), some (.int x5), some (.int x6), none, none, none, none, none, none, none]) (st := []) (σ := (wi σ 60 0 0)) rfl ((fX7_isKnown_ok _ _ q14 h15).deep (Nat.le_of_ble_eq_true rfl)) ?_
            by_cases h16 : q14 = 0
            · rw [if_pos h16] at hf
              refine go_it (t := 73) (f := 60) (L1 := [some (.ref 60), some (.int x1), some (.int x2), some (.int x3), some (.int x4), some (.int x5), some (.int x6), none, none, none, none, none, none, none]) (st1 := []) (σ1 := (wi σ 60 0 0)) rfl h16 ?_
              refine go_e (L1 := [none, none, none, none, none, none, none, none, none, none, none, none, none, none]) rfl rfl ?_
              refine go_n 1 (f := (74, [none, none, none, none, none, none, none, none, none, none, none, none, none, none], [.int (-1)], (wi σ 60 0 0))) rfl ?_
              cases hf
              exact go_r rfl
            · rw [if_neg h16] at hf
              refine go_if (t := 73) (f := 60) (L1 := [some (.ref 60), some (.int x1), some (.int x2), some (.int x3), some (.int x4), some (.int x5), some (.int x6), none, none, none, none, none, none, none]) (st1 := []) (σ1 := (wi σ 60 0 0)) rfl h16 ?_
              refine go_n 4 (f := (67, [some (.ref 60), some (.int x1), some (.int x2), some (.int x3), some (.int x4), some (.int x5), some (.int x6), none, none, none, none, none, none, none], [.long 2, .long 0, .long x6.toInt64], (wi σ 60 0 0))) rfl ?_
              obtain ⟨q17, h18, hf⟩ := bnd hf
              refine go_c (mid := 12034) (args := [.long x6.toInt64, .long 0, .long 2]) (pc := 70) (L := [some (.ref 60), some (.int x1), some (.int x2), some (.int x3), some (.int x4), some (.int x5), some (.int x6), none, none, none, none, none, none, none]) (st := []) (σ := (wi σ 60 0 0)) rfl ((fX7_in_ok _ _ _ _ q17 h18).deep (Nat.le_of_ble_eq_true rfl)) ?_
              by_cases h19 : q17 ≠ 0
              · rw [if_pos h19] at hf
                refine go_it (t := 75) (f := 73) (L1 := [some (.ref 60), some (.int x1), some (.int x2), some (.int x3), some (.int x4), some (.int x5), some (.int x6), none, none, none, none, none, none, none]) (st1 := []) (σ1 := (wi σ 60 0 0)) rfl h19 ?_
                refine go_n 2 (f := (78, [some (.ref 60), some (.int x1), some (.int x2), some (.int x3), some (.int x4), some (.int x5), some (.int x6), none, none, none, none, none, none, none], [.int x5, .ref 60], (wi σ 60 0 0))) rfl ?_
                obtain ⟨q20, h21, hf⟩ := bnd hf
                refine go_c (mid := 12107) (args := [.ref 60, .int x5]) (pc := 81) (L := [some (.ref 60), some (.int x1), some (.int x2), some (.int x3), some (.int x4), some (.int x5), some (.int x6), none, none, none, none, none, none, none]) (st := []) (σ := (wi σ 60 0 0)) rfl ((fX7_knowBy_ok _ _ q20 h21).deep (Nat.le_of_ble_eq_true rfl)) ?_
                refine go_n 1 (f := (82, [some (.ref 60), some (.int x1), some (.int x2), some (.int x3), some (.int x4), some (.int x5), some (.int x6), none, none, none, none, none, none, none], [.ref 60], q20)) rfl ?_
                obtain ⟨q22, h23, hf⟩ := bnd hf
                refine go_c (mid := 12141) (args := [.ref 60]) (pc := 85) (L := [some (.ref 60), some (.int x1), some (.int x2), some (.int x3), some (.int x4), some (.int x5), some (.int x6), none, none, none, none, none, none, none]) (st := []) (σ := q20) rfl ((fX7_noShifts_ok _ q22 h23).deep (Nat.le_of_ble_eq_true rfl)) ?_
                refine go_n 2 (f := (88, [some (.ref 60), some (.int x1), some (.int x2), some (.int x3), some (.int x4), some (.int x5), some (.int x6), some (.int x2), none, none, none, none, none, none], [], q22)) rfl ?_
                refine go_e (L1 := [some (.ref 60), some (.int x1), some (.int x2), some (.int x3), some (.int x4), none, some (.int x6), some (.int x2), none, none, none, none, none, none]) rfl rfl ?_
                exact fX7_plan_L88_ok _ _ _ _ _   N0 _ _ _ hf
              · rw [if_neg h19] at hf
                refine go_if (t := 75) (f := 73) (L1 := [some (.ref 60), some (.int x1), some (.int x2), some (.int x3), some (.int x4), some (.int x5), some (.int x6), none, none, none, none, none, none, none]) (st1 := []) (σ1 := (wi σ 60 0 0)) rfl h19 ?_
                refine go_e (L1 := [none, none, none, none, none, none, none, none, none, none, none, none, none, none]) rfl rfl ?_
                refine go_n 1 (f := (74, [none, none, none, none, none, none, none, none, none, none, none, none, none, none], [.int (-1)], (wi σ 60 0 0))) rfl ?_
                cases hf
                exact go_r rfl
/-! OldWeatherModel.bound(III)I -/
def fX7_bound (x1 : Int32) (x2 : Int32) (x3 : Int32) (σ : Sg) : Option (Int32 × Sg) :=
  (fX7_isReading x1 (wi σ 60 0 0)).bind fun q1 => if q1 = 0 then some ((-100000), (wi σ 60 0 0)) else (fX7_isKnown x2).bind fun q4 => if q4 = 0 then some ((-100000), (wi σ 60 0 0)) else (fX7_in x3.toInt64 0 3).bind fun q7 => if q7 ≠ 0 then (fX7_knowBy x2 (wi σ 60 0 0)).bind fun q10 => (fX7_dayFirst x1 q10).bind fun q12 => if q12 = (-1) then some ((-100000), q10) else (fX7_isTold x1 q10).bind fun q15 => if q15 = 0 then some ((-100000), q10) else (fX7_findBounds x1 q12 q10).bind fun q18 => if q18.1 ≠ 0 then if x3 ≠ 0 then if x3 ≠ 1 then if x3 ≠ 2 then (fX7_get x1 0 q18.2).bind fun q24 => ((fun (z27 : Int32) => some (z27, q18.2)) (if q24 ≠ 1 then (-100000) else (gi q18.2 60 44))) else some ((gi q18.2 60 43), q18.2) else some ((gi q18.2 60 42), q18.2) else some ((gi q18.2 60 41), q18.2) else some ((-100000), q18.2) else some ((-100000), (wi σ 60 0 0))
set_option maxHeartbeats 1500000 in
theorem fX7_bound_ok (x1 : Int32) (x2 : Int32) (x3 : Int32) (σ : Sg) (r : (Int32 × Sg)) (hf : fX7_bound x1 x2 x3 σ = some r) : Cl true 10 12113 [.ref 60, .int x1, .int x2, .int x3] σ (.inl (some (.int (r).1)), (r).2) := by
  refine ⟨iX7_bound, rfl, Nat.le_of_ble_eq_true rfl, Nat.le_of_ble_eq_true rfl, ?_⟩
  show Go true 10 iX7_bound (0, [some (.ref 60), some (.int x1), some (.int x2), some (.int x3), none], [], σ) (.inl (some (.int (r).1)), (r).2)
  unfold fX7_bound at hf
  refine go_n 5 (f := (7, [some (.ref 60), some (.int x1), some (.int x2), some (.int x3), none], [.int x1, .ref 60], (wi σ 60 0 0))) rfl ?_
  obtain ⟨q1, h2, hf⟩ := bnd hf
  refine go_c (mid := 12058) (args := [.ref 60, .int x1]) (pc := 10) (L := [some (.ref 60), some (.int x1), some (.int x2), some (.int x3), none]) (st := []) (σ := (wi σ 60 0 0)) rfl ((fX7_isReading_ok _ _ q1 h2).deep (Nat.le_of_ble_eq_true rfl)) ?_
  by_cases h3 : q1 = 0
  · rw [if_pos h3] at hf
    refine go_it (t := 32) (f := 13) (L1 := [some (.ref 60), some (.int x1), some (.int x2), some (.int x3), none]) (st1 := []) (σ1 := (wi σ 60 0 0)) rfl h3 ?_
    refine go_e (L1 := [none, none, none, none, none]) rfl rfl ?_
    refine go_n 1 (f := (34, [none, none, none, none, none], [.int (-100000)], (wi σ 60 0 0))) rfl ?_
    cases hf
    exact go_r rfl
  · rw [if_neg h3] at hf
    refine go_if (t := 32) (f := 13) (L1 := [some (.ref 60), some (.int x1), some (.int x2), some (.int x3), none]) (st1 := []) (σ1 := (wi σ 60 0 0)) rfl h3 ?_
    refine go_n 1 (f := (14, [some (.ref 60), some (.int x1), some (.int x2), some (.int x3), none], [.int x2], (wi σ 60 0 0))) rfl ?_
    obtain ⟨q4, h5, hf⟩ := bnd hf
    refine go_c (mid := 12057) (args := [.int x2]) (pc := 17) (L := [some (.ref 60), some (.int x1), some (.int x2), some (.int x3), none]) (st := []) (σ := (wi σ 60 0 0)) rfl ((fX7_isKnown_ok _ _ q4 h5).deep (Nat.le_of_ble_eq_true rfl)) ?_
    by_cases h6 : q4 = 0
    · rw [if_pos h6] at hf
      refine go_it (t := 32) (f := 20) (L1 := [some (.ref 60), some (.int x1), some (.int x2), some (.int x3), none]) (st1 := []) (σ1 := (wi σ 60 0 0)) rfl h6 ?_
      refine go_e (L1 := [none, none, none, none, none]) rfl rfl ?_
      refine go_n 1 (f := (34, [none, none, none, none, none], [.int (-100000)], (wi σ 60 0 0))) rfl ?_
      cases hf
      exact go_r rfl
    · rw [if_neg h6] at hf
      refine go_if (t := 32) (f := 20) (L1 := [some (.ref 60), some (.int x1), some (.int x2), some (.int x3), none]) (st1 := []) (σ1 := (wi σ 60 0 0)) rfl h6 ?_
      refine go_n 4 (f := (26, [some (.ref 60), some (.int x1), some (.int x2), some (.int x3), none], [.long 3, .long 0, .long x3.toInt64], (wi σ 60 0 0))) rfl ?_
      obtain ⟨q7, h8, hf⟩ := bnd hf
      refine go_c (mid := 12034) (args := [.long x3.toInt64, .long 0, .long 3]) (pc := 29) (L := [some (.ref 60), some (.int x1), some (.int x2), some (.int x3), none]) (st := []) (σ := (wi σ 60 0 0)) rfl ((fX7_in_ok _ _ _ _ q7 h8).deep (Nat.le_of_ble_eq_true rfl)) ?_
      by_cases h9 : q7 ≠ 0
      · rw [if_pos h9] at hf
        refine go_it (t := 35) (f := 32) (L1 := [some (.ref 60), some (.int x1), some (.int x2), some (.int x3), none]) (st1 := []) (σ1 := (wi σ 60 0 0)) rfl h9 ?_
        refine go_n 2 (f := (37, [some (.ref 60), some (.int x1), some (.int x2), some (.int x3), none], [.int x2, .ref 60], (wi σ 60 0 0))) rfl ?_
        obtain ⟨q10, h11, hf⟩ := bnd hf
        refine go_c (mid := 12107) (args := [.ref 60, .int x2]) (pc := 40) (L := [some (.ref 60), some (.int x1), some (.int x2), some (.int x3), none]) (st := []) (σ := (wi σ 60 0 0)) rfl ((fX7_knowBy_ok _ _ q10 h11).deep (Nat.le_of_ble_eq_true rfl)) ?_
        refine go_n 2 (f := (42, [some (.ref 60), some (.int x1), some (.int x2), some (.int x3), none], [.int x1, .ref 60], q10)) rfl ?_
        obtain ⟨q12, h13, hf⟩ := bnd hf
        refine go_c (mid := 12114) (args := [.ref 60, .int x1]) (pc := 45) (L := [some (.ref 60), some (.int x1), some (.int x2), some (.int x3), none]) (st := []) (σ := q10) rfl ((fX7_dayFirst_ok _ _ q12 h13).deep (Nat.le_of_ble_eq_true rfl)) ?_
        refine go_n 3 (f := (50, [some (.ref 60), some (.int x1), some (.int x2), some (.int x3), some (.int q12)], [.int (-1), .int q12], q10)) rfl ?_
        by_cases h14 : q12 = (-1)
        · rw [if_pos h14] at hf
          refine go_it (t := 71) (f := 53) (L1 := [some (.ref 60), some (.int x1), some (.int x2), some (.int x3), some (.int q12)]) (st1 := []) (σ1 := q10) rfl h14 ?_
          refine go_e (L1 := [none, none, none, none, none]) rfl rfl ?_
          refine go_n 1 (f := (73, [none, none, none, none, none], [.int (-100000)], q10)) rfl ?_
          cases hf
          exact go_r rfl
        · rw [if_neg h14] at hf
          refine go_if (t := 71) (f := 53) (L1 := [some (.ref 60), some (.int x1), some (.int x2), some (.int x3), some (.int q12)]) (st1 := []) (σ1 := q10) rfl h14 ?_
          refine go_n 2 (f := (55, [some (.ref 60), some (.int x1), some (.int x2), some (.int x3), some (.int q12)], [.int x1, .ref 60], q10)) rfl ?_
          obtain ⟨q15, h16, hf⟩ := bnd hf
          refine go_c (mid := 12115) (args := [.ref 60, .int x1]) (pc := 58) (L := [some (.ref 60), some (.int x1), some (.int x2), some (.int x3), some (.int q12)]) (st := []) (σ := q10) rfl ((fX7_isTold_ok _ _ q15 h16).deep (Nat.le_of_ble_eq_true rfl)) ?_
          by_cases h17 : q15 = 0
          · rw [if_pos h17] at hf
            refine go_it (t := 71) (f := 61) (L1 := [some (.ref 60), some (.int x1), some (.int x2), some (.int x3), some (.int q12)]) (st1 := []) (σ1 := q10) rfl h17 ?_
            refine go_e (L1 := [none, none, none, none, none]) rfl rfl ?_
            refine go_n 1 (f := (73, [none, none, none, none, none], [.int (-100000)], q10)) rfl ?_
            cases hf
            exact go_r rfl
          · rw [if_neg h17] at hf
            refine go_if (t := 71) (f := 61) (L1 := [some (.ref 60), some (.int x1), some (.int x2), some (.int x3), some (.int q12)]) (st1 := []) (σ1 := q10) rfl h17 ?_
            refine go_n 3 (f := (65, [some (.ref 60), some (.int x1), some (.int x2), some (.int x3), some (.int q12)], [.int q12, .int x1, .ref 60], q10)) rfl ?_
            obtain ⟨q18, h19, hf⟩ := bnd hf
            refine go_c (mid := 12116) (args := [.ref 60, .int x1, .int q12]) (pc := 68) (L := [some (.ref 60), some (.int x1), some (.int x2), some (.int x3), some (.int q12)]) (st := []) (σ := q10) rfl ((fX7_findBounds_ok _ _ _ q18 h19).deep (Nat.le_of_ble_eq_true rfl)) ?_
            by_cases h20 : q18.1 ≠ 0
            · rw [if_pos h20] at hf
              refine go_it (t := 74) (f := 71) (L1 := [some (.ref 60), some (.int x1), some (.int x2), some (.int x3), some (.int q12)]) (st1 := []) (σ1 := q18.2) rfl h20 ?_
              refine go_n 1 (f := (75, [some (.ref 60), some (.int x1), some (.int x2), some (.int x3), some (.int q12)], [.int x3], q18.2)) rfl ?_
              by_cases h21 : x3 ≠ 0
              · rw [if_pos h21] at hf
                refine go_it (t := 85) (f := 78) (L1 := [some (.ref 60), some (.int x1), some (.int x2), some (.int x3), some (.int q12)]) (st1 := []) (σ1 := q18.2) rfl h21 ?_
                refine go_n 2 (f := (87, [some (.ref 60), some (.int x1), some (.int x2), some (.int x3), some (.int q12)], [.int 1, .int x3], q18.2)) rfl ?_
                by_cases h22 : x3 ≠ 1
                · rw [if_pos h22] at hf
                  refine go_it (t := 97) (f := 90) (L1 := [some (.ref 60), some (.int x1), some (.int x2), some (.int x3), some (.int q12)]) (st1 := []) (σ1 := q18.2) rfl h22 ?_
                  refine go_n 2 (f := (99, [some (.ref 60), some (.int x1), some (.int x2), some (.int x3), some (.int q12)], [.int 2, .int x3], q18.2)) rfl ?_
                  by_cases h23 : x3 ≠ 2
                  · rw [if_pos h23] at hf
                    refine go_it (t := 109) (f := 102) (L1 := [some (.ref 60), some (.int x1), some (.int x2), some (.int x3), some (.int q12)]) (st1 := []) (σ1 := q18.2) rfl h23 ?_
                    refine go_n 3 (f := (112, [some (.ref 60), some (.int x1), some (.int x2), some (.int x3), some (.int q12)], [.int 0, .int x1, .ref 60], q18.2)) rfl ?_
                    obtain ⟨q24, h25, hf⟩ := bnd hf
                    refine go_c (mid := 12067) (args := [.ref 60, .int x1, .int 0]) (pc := 115) (L := [some (.ref 60), some (.int x1), some (.int x2), some (.int x3), some (.int q12)]) (st := []) (σ := q18.2) rfl ((fX7_get_ok _ _ _ q24 h25).deep (Nat.le_of_ble_eq_true rfl)) ?_
                    refine go_n 1 (f := (116, [some (.ref 60), some (.int x1), some (.int x2), some (.int x3), some (.int q12)], [.int 1, .int q24], q18.2)) rfl ?_
                    refine go_m (f := (128, [none, none, none, none, none], [.int (if q24 ≠ 1 then (-100000) else (gi q18.2 60 44))], q18.2)) ?_ (fun hJ28 => ?_)
                    · generalize hz27 : (if q24 ≠ 1 then (-100000) else (gi q18.2 60 44)) = z27 at hf ⊢
                      try dsimp only at hf
                      cases hf
                      exact go_r rfl
                    · by_cases h26 : q24 ≠ 1
                      · refine go_it (t := 126) (f := 119) (L1 := [some (.ref 60), some (.int x1), some (.int x2), some (.int x3), some (.int q12)]) (st1 := []) (σ1 := q18.2) rfl h26 ?_
                        refine go_n 1 (f := (128, [some (.ref 60), some (.int x1), some (.int x2), some (.int x3), some (.int q12)], [.int (-100000)], q18.2)) rfl ?_
                        refine go_e (L1 := [none, none, none, none, none]) rfl rfl ?_
                        simp only [if_pos h26] at hJ28
                        first | exact hJ28 | (simp only [if_pos h26]; exact hJ28)
                      · refine go_if (t := 126) (f := 119) (L1 := [some (.ref 60), some (.int x1), some (.int x2), some (.int x3), some (.int q12)]) (st1 := []) (σ1 := q18.2) rfl h26 ?_
                        refine go_n 3 (f := (128, [some (.ref 60), some (.int x1), some (.int x2), some (.int x3), some (.int q12)], [.int (gi q18.2 60 44)], q18.2)) rfl ?_
                        refine go_e (L1 := [none, none, none, none, none]) rfl rfl ?_
                        simp only [if_neg h26] at hJ28
                        first | exact hJ28 | (simp only [if_neg h26]; exact hJ28)
                  · rw [if_neg h23] at hf
                    refine go_if (t := 109) (f := 102) (L1 := [some (.ref 60), some (.int x1), some (.int x2), some (.int x3), some (.int q12)]) (st1 := []) (σ1 := q18.2) rfl h23 ?_
                    refine go_n 3 (f := (128, [some (.ref 60), some (.int x1), some (.int x2), some (.int x3), some (.int q12)], [.int (gi q18.2 60 43)], q18.2)) rfl ?_
                    refine go_e (L1 := [none, none, none, none, none]) rfl rfl ?_
                    cases hf
                    exact go_r rfl
                · rw [if_neg h22] at hf
                  refine go_if (t := 97) (f := 90) (L1 := [some (.ref 60), some (.int x1), some (.int x2), some (.int x3), some (.int q12)]) (st1 := []) (σ1 := q18.2) rfl h22 ?_
                  refine go_n 3 (f := (128, [some (.ref 60), some (.int x1), some (.int x2), some (.int x3), some (.int q12)], [.int (gi q18.2 60 42)], q18.2)) rfl ?_
                  refine go_e (L1 := [none, none, none, none, none]) rfl rfl ?_
                  cases hf
                  exact go_r rfl
              · rw [if_neg h21] at hf
                refine go_if (t := 85) (f := 78) (L1 := [some (.ref 60), some (.int x1), some (.int x2), some (.int x3), some (.int q12)]) (st1 := []) (σ1 := q18.2) rfl h21 ?_
                refine go_n 3 (f := (128, [some (.ref 60), some (.int x1), some (.int x2), some (.int x3), some (.int q12)], [.int (gi q18.2 60 41)], q18.2)) rfl ?_
                refine go_e (L1 := [none, none, none, none, none]) rfl rfl ?_
                cases hf
                exact go_r rfl
            · rw [if_neg h20] at hf
              refine go_if (t := 74) (f := 71) (L1 := [some (.ref 60), some (.int x1), some (.int x2), some (.int x3), some (.int q12)]) (st1 := []) (σ1 := q18.2) rfl h20 ?_
              refine go_e (L1 := [none, none, none, none, none]) rfl rfl ?_
              refine go_n 1 (f := (73, [none, none, none, none, none], [.int (-100000)], q18.2)) rfl ?_
              cases hf
              exact go_r rfl
      · rw [if_neg h9] at hf
        refine go_if (t := 35) (f := 32) (L1 := [some (.ref 60), some (.int x1), some (.int x2), some (.int x3), none]) (st1 := []) (σ1 := (wi σ 60 0 0)) rfl h9 ?_
        refine go_e (L1 := [none, none, none, none, none]) rfl rfl ?_
        refine go_n 1 (f := (34, [none, none, none, none, none], [.int (-100000)], (wi σ 60 0 0))) rfl ?_
        cases hf
        exact go_r rfl
/-! OldWeatherModel.counts(II)I -/
def fX7_counts (x1 : Int32) (x2 : Int32) (σ : Sg) : Option (Int32 × Sg) :=
  (fX7_isReading x1 (wi σ 60 0 0)).bind fun q1 => if q1 = 0 then some ((-1), (wi σ 60 0 0)) else (fX7_isKnown x2).bind fun q4 => if q4 ≠ 0 then (fX7_knowBy x2 (wi σ 60 0 0)).bind fun q7 => (fX7_doesCount x1 q7).bind fun q9 => ((fun (z12 : Int32) => some (z12, q9.2)) ((if q9.1 = 0 then 0 else 1) : Int32)) else some ((-1), (wi σ 60 0 0))
set_option maxHeartbeats 1500000 in
theorem fX7_counts_ok (x1 : Int32) (x2 : Int32) (σ : Sg) (r : (Int32 × Sg)) (hf : fX7_counts x1 x2 σ = some r) : Cl true 11 12138 [.ref 60, .int x1, .int x2] σ (.inl (some (.int (r).1)), (r).2) := by
  refine ⟨iX7_counts, rfl, Nat.le_of_ble_eq_true rfl, Nat.le_of_ble_eq_true rfl, ?_⟩
  show Go true 11 iX7_counts (0, [some (.ref 60), some (.int x1), some (.int x2)], [], σ) (.inl (some (.int (r).1)), (r).2)
  unfold fX7_counts at hf
  refine go_n 5 (f := (7, [some (.ref 60), some (.int x1), some (.int x2)], [.int x1, .ref 60], (wi σ 60 0 0))) rfl ?_
  obtain ⟨q1, h2, hf⟩ := bnd hf
  refine go_c (mid := 12058) (args := [.ref 60, .int x1]) (pc := 10) (L := [some (.ref 60), some (.int x1), some (.int x2)]) (st := []) (σ := (wi σ 60 0 0)) rfl ((fX7_isReading_ok _ _ q1 h2).deep (Nat.le_of_ble_eq_true rfl)) ?_
  by_cases h3 : q1 = 0
  · rw [if_pos h3] at hf
    refine go_it (t := 20) (f := 13) (L1 := [some (.ref 60), some (.int x1), some (.int x2)]) (st1 := []) (σ1 := (wi σ 60 0 0)) rfl h3 ?_
    refine go_e (L1 := [none, none, none]) rfl rfl ?_
    refine go_n 1 (f := (21, [none, none, none], [.int (-1)], (wi σ 60 0 0))) rfl ?_
    cases hf
    exact go_r rfl
  · rw [if_neg h3] at hf
    refine go_if (t := 20) (f := 13) (L1 := [some (.ref 60), some (.int x1), some (.int x2)]) (st1 := []) (σ1 := (wi σ 60 0 0)) rfl h3 ?_
    refine go_n 1 (f := (14, [some (.ref 60), some (.int x1), some (.int x2)], [.int x2], (wi σ 60 0 0))) rfl ?_
    obtain ⟨q4, h5, hf⟩ := bnd hf
    refine go_c (mid := 12057) (args := [.int x2]) (pc := 17) (L := [some (.ref 60), some (.int x1), some (.int x2)]) (st := []) (σ := (wi σ 60 0 0)) rfl ((fX7_isKnown_ok _ _ q4 h5).deep (Nat.le_of_ble_eq_true rfl)) ?_
    by_cases h6 : q4 ≠ 0
    · rw [if_pos h6] at hf
      refine go_it (t := 22) (f := 20) (L1 := [some (.ref 60), some (.int x1), some (.int x2)]) (st1 := []) (σ1 := (wi σ 60 0 0)) rfl h6 ?_
      refine go_n 2 (f := (24, [some (.ref 60), some (.int x1), some (.int x2)], [.int x2, .ref 60], (wi σ 60 0 0))) rfl ?_
      obtain ⟨q7, h8, hf⟩ := bnd hf
      refine go_c (mid := 12107) (args := [.ref 60, .int x2]) (pc := 27) (L := [some (.ref 60), some (.int x1), some (.int x2)]) (st := []) (σ := (wi σ 60 0 0)) rfl ((fX7_knowBy_ok _ _ q7 h8).deep (Nat.le_of_ble_eq_true rfl)) ?_
      refine go_n 2 (f := (29, [some (.ref 60), some (.int x1), some (.int x2)], [.int x1, .ref 60], q7)) rfl ?_
      obtain ⟨q9, h10, hf⟩ := bnd hf
      refine go_c (mid := 12139) (args := [.ref 60, .int x1]) (pc := 32) (L := [some (.ref 60), some (.int x1), some (.int x2)]) (st := []) (σ := q7) rfl ((fX7_doesCount_ok _ _ q9 h10).deep (Nat.le_of_ble_eq_true rfl)) ?_
      refine go_m (f := (40, [none, none, none], [.int ((if q9.1 = 0 then 0 else 1) : Int32)], q9.2)) ?_ (fun hJ13 => ?_)
      · generalize hz12 : ((if q9.1 = 0 then 0 else 1) : Int32) = z12 at hf ⊢
        have oz12 : am_ok 3 z12 = true := hz12 ▸ (okb rfl rfl)
        try dsimp only at hf
        cases hf
        exact go_r rfl
      · by_cases h11 : q9.1 = 0
        · refine go_it (t := 39) (f := 35) (L1 := [some (.ref 60), some (.int x1), some (.int x2)]) (st1 := []) (σ1 := q9.2) rfl h11 ?_
          refine go_n 1 (f := (40, [some (.ref 60), some (.int x1), some (.int x2)], [.int 0], q9.2)) rfl ?_
          refine go_e (L1 := [none, none, none]) rfl rfl ?_
          simp only [if_pos h11] at hJ13
          first | exact hJ13 | (simp only [if_pos h11]; exact hJ13)
        · refine go_if (t := 39) (f := 35) (L1 := [some (.ref 60), some (.int x1), some (.int x2)]) (st1 := []) (σ1 := q9.2) rfl h11 ?_
          refine go_n 2 (f := (40, [some (.ref 60), some (.int x1), some (.int x2)], [.int 1], q9.2)) rfl ?_
          refine go_e (L1 := [none, none, none]) rfl rfl ?_
          simp only [if_neg h11] at hJ13
          first | exact hJ13 | (simp only [if_neg h11]; exact hJ13)
    · rw [if_neg h6] at hf
      refine go_if (t := 22) (f := 20) (L1 := [some (.ref 60), some (.int x1), some (.int x2)]) (st1 := []) (σ1 := (wi σ 60 0 0)) rfl h6 ?_
      refine go_e (L1 := [none, none, none]) rfl rfl ?_
      refine go_n 1 (f := (21, [none, none, none], [.int (-1)], (wi σ 60 0 0))) rfl ?_
      cases hf
      exact go_r rfl
/-! OldWeatherModel.joined(IIII)I -/
def fX7_joined (x1 : Int32) (x2 : Int32) (x3 : Int32) (x4 : Int32) (σ : Sg) : Option (Int32 × Sg) :=
  (fX7_isPlace x1 (wi σ 60 0 0)).bind fun q1 => if q1 = 0 then some ((-100000), (wi σ 60 0 0)) else (fX7_isDay x2).bind fun q4 => if q4 = 0 then some ((-100000), (wi σ 60 0 0)) else (fX7_isKnown x3).bind fun q7 => if q7 = 0 then some ((-100000), (wi σ 60 0 0)) else (fX7_in x4.toInt64 0 4).bind fun q10 => if q10 ≠ 0 then (fX7_knowBy x3 (wi σ 60 0 0)).bind fun q13 => (fX7_noShifts  q13).bind fun q15 => (fX7_join x1 x2 q15).bind fun q17 => (fX7_tellJoined x4 q17).bind fun q19 => some (q19, q17) else some ((-100000), (wi σ 60 0 0))
set_option maxHeartbeats 1500000 in
theorem fX7_joined_ok (x1 : Int32) (x2 : Int32) (x3 : Int32) (x4 : Int32) (σ : Sg) (r : (Int32 × Sg)) (hf : fX7_joined x1 x2 x3 x4 σ = some r) : Cl true 12 12140 [.ref 60, .int x1, .int x2, .int x3, .int x4] σ (.inl (some (.int (r).1)), (r).2) := by
  refine ⟨iX7_joined, rfl, Nat.le_of_ble_eq_true rfl, Nat.le_of_ble_eq_true rfl, ?_⟩
  show Go true 12 iX7_joined (0, [some (.ref 60), some (.int x1), some (.int x2), some (.int x3), some (.int x4)], [], σ) (.inl (some (.int (r).1)), (r).2)
  unfold fX7_joined at hf
  refine go_n 5 (f := (7, [some (.ref 60), some (.int x1), some (.int x2), some (.int x3), some (.int x4)], [.int x1, .ref 60], (wi σ 60 0 0))) rfl ?_
  obtain ⟨q1, h2, hf⟩ := bnd hf
  refine go_c (mid := 12048) (args := [.ref 60, .int x1]) (pc := 10) (L := [some (.ref 60), some (.int x1), some (.int x2), some (.int x3), some (.int x4)]) (st := []) (σ := (wi σ 60 0 0)) rfl ((fX7_isPlace_ok _ _ q1 h2).deep (Nat.le_of_ble_eq_true rfl)) ?_
  by_cases h3 : q1 = 0
  · rw [if_pos h3] at hf
    refine go_it (t := 40) (f := 13) (L1 := [some (.ref 60), some (.int x1), some (.int x2), some (.int x3), some (.int x4)]) (st1 := []) (σ1 := (wi σ 60 0 0)) rfl h3 ?_
    refine go_e (L1 := [none, none, none, none, none]) rfl rfl ?_
    refine go_n 1 (f := (42, [none, none, none, none, none], [.int (-100000)], (wi σ 60 0 0))) rfl ?_
    cases hf
    exact go_r rfl
  · rw [if_neg h3] at hf
    refine go_if (t := 40) (f := 13) (L1 := [some (.ref 60), some (.int x1), some (.int x2), some (.int x3), some (.int x4)]) (st1 := []) (σ1 := (wi σ 60 0 0)) rfl h3 ?_
    refine go_n 1 (f := (14, [some (.ref 60), some (.int x1), some (.int x2), some (.int x3), some (.int x4)], [.int x2], (wi σ 60 0 0))) rfl ?_
    obtain ⟨q4, h5, hf⟩ := bnd hf
    refine go_c (mid := 12042) (args := [.int x2]) (pc := 17) (L := [some (.ref 60), some (.int x1), some (.int x2), some (.int x3), some (.int x4)]) (st := []) (σ := (wi σ 60 0 0)) rfl ((fX7_isDay_ok _ _ q4 h5).deep (Nat.le_of_ble_eq_true rfl)) ?_
    by_cases h6 : q4 = 0
    · rw [if_pos h6] at hf
      refine go_it (t := 40) (f := 20) (L1 := [some (.ref 60), some (.int x1), some (.int x2), some (.int x3), some (.int x4)]) (st1 := []) (σ1 := (wi σ 60 0 0)) rfl h6 ?_
      refine go_e (L1 := [none, none, none, none, none]) rfl rfl ?_
      refine go_n 1 (f := (42, [none, none, none, none, none], [.int (-100000)], (wi σ 60 0 0))) rfl ?_
      cases hf
      exact go_r rfl
    · rw [if_neg h6] at hf
      refine go_if (t := 40) (f := 20) (L1 := [some (.ref 60), some (.int x1), some (.int x2), some (.int x3), some (.int x4)]) (st1 := []) (σ1 := (wi σ 60 0 0)) rfl h6 ?_
      refine go_n 1 (f := (21, [some (.ref 60), some (.int x1), some (.int x2), some (.int x3), some (.int x4)], [.int x3], (wi σ 60 0 0))) rfl ?_
      obtain ⟨q7, h8, hf⟩ := bnd hf
      refine go_c (mid := 12057) (args := [.int x3]) (pc := 24) (L := [some (.ref 60), some (.int x1), some (.int x2), some (.int x3), some (.int x4)]) (st := []) (σ := (wi σ 60 0 0)) rfl ((fX7_isKnown_ok _ _ q7 h8).deep (Nat.le_of_ble_eq_true rfl)) ?_
      by_cases h9 : q7 = 0
      · rw [if_pos h9] at hf
        refine go_it (t := 40) (f := 27) (L1 := [some (.ref 60), some (.int x1), some (.int x2), some (.int x3), some (.int x4)]) (st1 := []) (σ1 := (wi σ 60 0 0)) rfl h9 ?_
        refine go_e (L1 := [none, none, none, none, none]) rfl rfl ?_
        refine go_n 1 (f := (42, [none, none, none, none, none], [.int (-100000)], (wi σ 60 0 0))) rfl ?_
        cases hf
        exact go_r rfl
      · rw [if_neg h9] at hf
        refine go_if (t := 40) (f := 27) (L1 := [some (.ref 60), some (.int x1), some (.int x2), some (.int x3), some (.int x4)]) (st1 := []) (σ1 := (wi σ 60 0 0)) rfl h9 ?_
        refine go_n 4 (f := (34, [some (.ref 60), some (.int x1), some (.int x2), some (.int x3), some (.int x4)], [.long 4, .long 0, .long x4.toInt64], (wi σ 60 0 0))) rfl ?_
        obtain ⟨q10, h11, hf⟩ := bnd hf
        refine go_c (mid := 12034) (args := [.long x4.toInt64, .long 0, .long 4]) (pc := 37) (L := [some (.ref 60), some (.int x1), some (.int x2), some (.int x3), some (.int x4)]) (st := []) (σ := (wi σ 60 0 0)) rfl ((fX7_in_ok _ _ _ _ q10 h11).deep (Nat.le_of_ble_eq_true rfl)) ?_
        by_cases h12 : q10 ≠ 0
        · rw [if_pos h12] at hf
          refine go_it (t := 43) (f := 40) (L1 := [some (.ref 60), some (.int x1), some (.int x2), some (.int x3), some (.int x4)]) (st1 := []) (σ1 := (wi σ 60 0 0)) rfl h12 ?_
          refine go_n 2 (f := (45, [some (.ref 60), some (.int x1), some (.int x2), some (.int x3), some (.int x4)], [.int x3, .ref 60], (wi σ 60 0 0))) rfl ?_
          obtain ⟨q13, h14, hf⟩ := bnd hf
          refine go_c (mid := 12107) (args := [.ref 60, .int x3]) (pc := 48) (L := [some (.ref 60), some (.int x1), some (.int x2), some (.int x3), some (.int x4)]) (st := []) (σ := (wi σ 60 0 0)) rfl ((fX7_knowBy_ok _ _ q13 h14).deep (Nat.le_of_ble_eq_true rfl)) ?_
          refine go_n 1 (f := (49, [some (.ref 60), some (.int x1), some (.int x2), some (.int x3), some (.int x4)], [.ref 60], q13)) rfl ?_
          obtain ⟨q15, h16, hf⟩ := bnd hf
          refine go_c (mid := 12141) (args := [.ref 60]) (pc := 52) (L := [some (.ref 60), some (.int x1), some (.int x2), some (.int x3), some (.int x4)]) (st := []) (σ := q13) rfl ((fX7_noShifts_ok _ q15 h16).deep (Nat.le_of_ble_eq_true rfl)) ?_
          refine go_n 3 (f := (55, [some (.ref 60), some (.int x1), some (.int x2), some (.int x3), some (.int x4)], [.int x2, .int x1, .ref 60], q15)) rfl ?_
          obtain ⟨q17, h18, hf⟩ := bnd hf
          refine go_c (mid := 12142) (args := [.ref 60, .int x1, .int x2]) (pc := 58) (L := [some (.ref 60), some (.int x1), some (.int x2), some (.int x3), some (.int x4)]) (st := []) (σ := q15) rfl ((fX7_join_ok _ _ _ q17 h18).deep (Nat.le_of_ble_eq_true rfl)) ?_
          refine go_n 2 (f := (61, [some (.ref 60), some (.int x1), some (.int x2), some (.int x3), some (.int x4)], [.int x4, .ref 60], q17)) rfl ?_
          obtain ⟨q19, h20, hf⟩ := bnd hf
          refine go_c (mid := 12146) (args := [.ref 60, .int x4]) (pc := 64) (L := [some (.ref 60), some (.int x1), some (.int x2), some (.int x3), some (.int x4)]) (st := []) (σ := q17) rfl ((fX7_tellJoined_ok _ _ q19 h20).deep (Nat.le_of_ble_eq_true rfl)) ?_
          cases hf
          exact go_r rfl
        · rw [if_neg h12] at hf
          refine go_if (t := 43) (f := 40) (L1 := [some (.ref 60), some (.int x1), some (.int x2), some (.int x3), some (.int x4)]) (st1 := []) (σ1 := (wi σ 60 0 0)) rfl h12 ?_
          refine go_e (L1 := [none, none, none, none, none]) rfl rfl ?_
          refine go_n 1 (f := (42, [none, none, none, none, none], [.int (-100000)], (wi σ 60 0 0))) rfl ?_
          cases hf
          exact go_r rfl
/-! OldWeatherModel.countClashes()V -/
def fX7_countClashes_J205 (x1 : Int32) (x2 : Int32) (rec28 : (Int32 × Sg) → Option Sg) (rec40 : (Int32 × Sg) → Option Sg) (σ : Sg) : Option Sg :=
  rec40 ((x2 + 1), σ)
set_option maxHeartbeats 1500000 in
theorem fX7_countClashes_J205_ok (x1 : Int32) (x2 : Int32) (rec28 : (Int32 × Sg) → Option Sg) (rec40 : (Int32 × Sg) → Option Sg) (σ : Sg) (hrec28 : ∀ (y1 : Int32) (τ : Sg) (r : Sg), rec28 (y1, τ) = some r → Go true 12 iX7_countClashes (28, [some (.ref 60), some (.int y1), none, none, none, none, none], [], τ) (.inl none, r)) (hrec40 : ∀ (y2 : Int32) (τ : Sg) (r : Sg), rec40 (y2, τ) = some r → Go true 12 iX7_countClashes (40, [some (.ref 60), some (.int x1), some (.int y2), none, none, none, none], [], τ) (.inl none, r)) (r : Sg) (hf : fX7_countClashes_J205 x1 x2 rec28 rec40 σ = some r) : Go true 12 iX7_countClashes (205, [some (.ref 60), some (.int x1), some (.int x2), none, none, none, none], [], σ) (.inl none, r) := by
  unfold fX7_countClashes_J205 at hf
  refine go_n 2 (f := (40, [some (.ref 60), some (.int x1), some (.int (x2 + 1)), none, none, none, none], [], σ)) rfl ?_
  exact hrec40 _ _ _ hf
def fX7_countClashes_L131 (x1 : Int32) (x2 : Int32) (x3 : Int32) (x4 : Int32) (x5 : Int32) (rec28 : (Int32 × Sg) → Option Sg) (rec40 : (Int32 × Sg) → Option Sg) (rec121 : (Int32 × Sg) → Option Sg) (rec131 : (Int32 × Sg) → Option Sg) (s : Int32 × Sg) : Option Sg :=
  match s with
  | (x6, σ) => ((fun (z30 : Int32) => if z30 ≤ x6 then rec121 ((x5 + 1), σ) else if inb (((((6 * x3) + x4) * 81) + (9 * x5)) + x6) 2430 then (fX7_clash x1 x5 x2 x6 σ).bind fun q33 => ((fun (z36 : Int32) => if inb (((((6 * x3) + x4) * 81) + (9 * x5)) + x6) 2430 then rec131 ((x6 + 1), (wi σ 90 (((((6 * x3) + x4) * 81) + (9 * x5)) + x6).toNatClampNeg ((gi σ 90 (((((6 * x3) + x4) * 81) + (9 * x5)) + x6).toNatClampNeg) + z36))) else none) ((if q33 = 0 then 0 else 1) : Int32)) else none) ((if x4 ≠ 5 then 9 else 1) : Int32))
set_option maxHeartbeats 1500000 in
theorem fX7_countClashes_L131_ok (x1 : Int32) (x2 : Int32) (x3 : Int32) (x4 : Int32) (x5 : Int32) (rec28 : (Int32 × Sg) → Option Sg) (rec40 : (Int32 × Sg) → Option Sg) (rec121 : (Int32 × Sg) → Option Sg) (hrec28 : ∀ (y1 : Int32) (τ : Sg) (r : Sg), rec28 (y1, τ) = some r → Go true 12 iX7_countClashes (28, [some (.ref 60), some (.int y1), none, none, none, none, none], [], τ) (.inl none, r)) (hrec40 : ∀ (y2 : Int32) (τ : Sg) (r : Sg), rec40 (y2, τ) = some r → Go true 12 iX7_countClashes (40, [some (.ref 60), some (.int x1), some (.int y2), none, none, none, none], [], τ) (.inl none, r)) (hrec121 : ∀ (y5 : Int32) (τ : Sg) (r : Sg), rec121 (y5, τ) = some r → Go true 12 iX7_countClashes (121, [some (.ref 60), some (.int x1), some (.int x2), some (.int x3), some (.int x4), some (.int y5), none], [], τ) (.inl none, r)) : ∀ (n : Nat) (x6 : Int32) (σ : Sg) (r : Sg), lp (fX7_countClashes_L131 x1 x2 x3 x4 x5 rec28 rec40 rec121) n (x6, σ) = some r → Go true 12 iX7_countClashes (131, [some (.ref 60), some (.int x1), some (.int x2), some (.int x3), some (.int x4), some (.int x5), some (.int x6)], [], σ) (.inl none, r) := by
  intro n
  induction n with
  | zero => intro x6 σ r hf; cases hf
  | succ n ih =>
    intro x6 σ r hf
    have hf : fX7_countClashes_L131 x1 x2 x3 x4 x5 rec28 rec40 rec121 (lp (fX7_countClashes_L131 x1 x2 x3 x4 x5 rec28 rec40 rec121) n) (x6, σ) = some r := hf
    have hrec131 := ih
    generalize lp (fX7_countClashes_L131 x1 x2 x3 x4 x5 rec28 rec40 rec121) n = rec131 at hf hrec131
    unfold fX7_countClashes_L131 at hf
    dsimp only at hf
    refine go_n 3 (f := (136, [some (.ref 60), some (.int x1), some (.int x2), some (.int x3), some (.int x4), some (.int x5), some (.int x6)], [.int 5, .int x4, .int x6], σ)) rfl ?_
    refine go_m (f := (145, [some (.ref 60), some (.int x1), some (.int x2), some (.int x3), some (.int x4), some (.int x5), some (.int x6)], [.int ((if x4 ≠ 5 then 9 else 1) : Int32), .int x6], σ)) ?_ (fun hJ39 => ?_)
    · generalize hz30 : ((if x4 ≠ 5 then 9 else 1) : Int32) = z30 at hf ⊢
      try dsimp only at hf
      by_cases h31 : z30 ≤ x6
      · rw [if_pos h31] at hf
        refine go_it (t := 199) (f := 148) (L1 := [some (.ref 60), some (.int x1), some (.int x2), some (.int x3), some (.int x4), some (.int x5), some (.int x6)]) (st1 := []) (σ1 := σ) rfl h31 ?_
        refine go_n 2 (f := (121, [some (.ref 60), some (.int x1), some (.int x2), some (.int x3), some (.int x4), some (.int (x5 + 1)), some (.int x6)], [], σ)) rfl ?_
        refine go_e (L1 := [some (.ref 60), some (.int x1), some (.int x2), some (.int x3), some (.int x4), some (.int (x5 + 1)), none]) rfl rfl ?_
        exact hrec121 _ _ _ hf
      · rw [if_neg h31] at hf
        refine go_if (t := 199) (f := 148) (L1 := [some (.ref 60), some (.int x1), some (.int x2), some (.int x3), some (.int x4), some (.int x5), some (.int x6)]) (st1 := []) (σ1 := σ) rfl h31 ?_
        refine go_n 10 (f := (164, [some (.ref 60), some (.int x1), some (.int x2), some (.int x3), some (.int x4), some (.int x5), some (.int x6)], [.int 9, .int (((6 * x3) + x4) * 81), .ref 90], σ)) rfl ?_
        refine go_n 6 (f := (172, [some (.ref 60), some (.int x1), some (.int x2), some (.int x3), some (.int x4), some (.int x5), some (.int x6)], [.int (((((6 * x3) + x4) * 81) + (9 * x5)) + x6), .ref 90, .int (((((6 * x3) + x4) * 81) + (9 * x5)) + x6), .ref 90], σ)) rfl ?_
        obtain ⟨h32, hf⟩ := grd hf
        refine go_iald rfl rfl rfl h32 ?_
        refine go_n 5 (f := (180, [some (.ref 60), some (.int x1), some (.int x2), some (.int x3), some (.int x4), some (.int x5), some (.int x6)], [.int x6, .int x2, .int x5, .int x1, .ref 60, .int (gi σ 90 (((((6 * x3) + x4) * 81) + (9 * x5)) + x6).toNatClampNeg), .int (((((6 * x3) + x4) * 81) + (9 * x5)) + x6), .ref 90], σ)) rfl ?_
        obtain ⟨q33, h34, hf⟩ := bnd hf
        refine go_c (mid := 12156) (args := [.ref 60, .int x1, .int x5, .int x2, .int x6]) (pc := 183) (L := [some (.ref 60), some (.int x1), some (.int x2), some (.int x3), some (.int x4), some (.int x5), some (.int x6)]) (st := [.int (gi σ 90 (((((6 * x3) + x4) * 81) + (9 * x5)) + x6).toNatClampNeg), .int (((((6 * x3) + x4) * 81) + (9 * x5)) + x6), .ref 90]) (σ := σ) rfl ((fX7_clash_ok _ _ _ _ _ q33 h34).deep (Nat.le_of_ble_eq_true rfl)) ?_
        refine go_m (f := (191, [some (.ref 60), some (.int x1), some (.int x2), some (.int x3), some (.int x4), some (.int x5), some (.int x6)], [.int ((if q33 = 0 then 0 else 1) : Int32), .int (gi σ 90 (((((6 * x3) + x4) * 81) + (9 * x5)) + x6).toNatClampNeg), .int (((((6 * x3) + x4) * 81) + (9 * x5)) + x6), .ref 90], σ)) ?_ (fun hJ38 => ?_)
        · generalize hz36 : ((if q33 = 0 then 0 else 1) : Int32) = z36 at hf ⊢
          have oz36 : am_ok 3 z36 = true := hz36 ▸ (okb rfl rfl)
          try dsimp only at hf
          refine go_n 1 (f := (192, [some (.ref 60), some (.int x1), some (.int x2), some (.int x3), some (.int x4), some (.int x5), some (.int x6)], [.int ((gi σ 90 (((((6 * x3) + x4) * 81) + (9 * x5)) + x6).toNatClampNeg) + z36), .int (((((6 * x3) + x4) * 81) + (9 * x5)) + x6), .ref 90], σ)) rfl ?_
          obtain ⟨h37, hf⟩ := grd hf
          refine go_iast rfl rfl rfl h37 ?_
          refine go_n 2 (f := (131, [some (.ref 60), some (.int x1), some (.int x2), some (.int x3), some (.int x4), some (.int x5), some (.int (x6 + 1))], [], (wi σ 90 (((((6 * x3) + x4) * 81) + (9 * x5)) + x6).toNatClampNeg ((gi σ 90 (((((6 * x3) + x4) * 81) + (9 * x5)) + x6).toNatClampNeg) + z36)))) rfl ?_
          exact hrec131 _ _ _ hf
        · by_cases h35 : q33 = 0
          · refine go_it (t := 190) (f := 186) (L1 := [some (.ref 60), some (.int x1), some (.int x2), some (.int x3), some (.int x4), some (.int x5), some (.int x6)]) (st1 := [.int (gi σ 90 (((((6 * x3) + x4) * 81) + (9 * x5)) + x6).toNatClampNeg), .int (((((6 * x3) + x4) * 81) + (9 * x5)) + x6), .ref 90]) (σ1 := σ) rfl h35 ?_
            refine go_n 1 (f := (191, [some (.ref 60), some (.int x1), some (.int x2), some (.int x3), some (.int x4), some (.int x5), some (.int x6)], [.int 0, .int (gi σ 90 (((((6 * x3) + x4) * 81) + (9 * x5)) + x6).toNatClampNeg), .int (((((6 * x3) + x4) * 81) + (9 * x5)) + x6), .ref 90], σ)) rfl ?_
            simp only [if_pos h35] at hJ38
            first | exact hJ38 | (simp only [if_pos h35]; exact hJ38)
          · refine go_if (t := 190) (f := 186) (L1 := [some (.ref 60), some (.int x1), some (.int x2), some (.int x3), some (.int x4), some (.int x5), some (.int x6)]) (st1 := [.int (gi σ 90 (((((6 * x3) + x4) * 81) + (9 * x5)) + x6).toNatClampNeg), .int (((((6 * x3) + x4) * 81) + (9 * x5)) + x6), .ref 90]) (σ1 := σ) rfl h35 ?_
            refine go_n 2 (f := (191, [some (.ref 60), some (.int x1), some (.int x2), some (.int x3), some (.int x4), some (.int x5), some (.int x6)], [.int 1, .int (gi σ 90 (((((6 * x3) + x4) * 81) + (9 * x5)) + x6).toNatClampNeg), .int (((((6 * x3) + x4) * 81) + (9 * x5)) + x6), .ref 90], σ)) rfl ?_
            simp only [if_neg h35] at hJ38
            first | exact hJ38 | (simp only [if_neg h35]; exact hJ38)
    · by_cases h29 : x4 ≠ 5
      · refine go_it (t := 143) (f := 139) (L1 := [some (.ref 60), some (.int x1), some (.int x2), some (.int x3), some (.int x4), some (.int x5), some (.int x6)]) (st1 := [.int x6]) (σ1 := σ) rfl h29 ?_
        refine go_n 1 (f := (145, [some (.ref 60), some (.int x1), some (.int x2), some (.int x3), some (.int x4), some (.int x5), some (.int x6)], [.int 9, .int x6], σ)) rfl ?_
        simp only [if_pos h29] at hJ39
        first | exact hJ39 | (simp only [if_pos h29]; exact hJ39)
      · refine go_if (t := 143) (f := 139) (L1 := [some (.ref 60), some (.int x1), some (.int x2), some (.int x3), some (.int x4), some (.int x5), some (.int x6)]) (st1 := [.int x6]) (σ1 := σ) rfl h29 ?_
        refine go_n 2 (f := (145, [some (.ref 60), some (.int x1), some (.int x2), some (.int x3), some (.int x4), some (.int x5), some (.int x6)], [.int 1, .int x6], σ)) rfl ?_
        simp only [if_neg h29] at hJ39
        first | exact hJ39 | (simp only [if_neg h29]; exact hJ39)
def fX7_countClashes_L121 (x1 : Int32) (x2 : Int32) (x3 : Int32) (x4 : Int32) (rec28 : (Int32 × Sg) → Option Sg) (rec40 : (Int32 × Sg) → Option Sg) (rec121 : (Int32 × Sg) → Option Sg) (s : Int32 × Sg) : Option Sg :=
  match s with
  | (x5, σ) => if 9 ≤ x5 then fX7_countClashes_J205 x1 x2 rec28 rec40 σ else lp (fX7_countClashes_L131 x1 x2 x3 x4 x5 rec28 rec40 rec121) N0 (0, σ)
set_option maxHeartbeats 1500000 in
theorem fX7_countClashes_L121_ok (x1 : Int32) (x2 : Int32) (x3 : Int32) (x4 : Int32) (rec28 : (Int32 × Sg) → Option Sg) (rec40 : (Int32 × Sg) → Option Sg) (hrec28 : ∀ (y1 : Int32) (τ : Sg) (r : Sg), rec28 (y1, τ) = some r → Go true 12 iX7_countClashes (28, [some (.ref 60), some (.int y1), none, none, none, none, none], [], τ) (.inl none, r)) (hrec40 : ∀ (y2 : Int32) (τ : Sg) (r : Sg), rec40 (y2, τ) = some r → Go true 12 iX7_countClashes (40, [some (.ref 60), some (.int x1), some (.int y2), none, none, none, none], [], τ) (.inl none, r)) : ∀ (n : Nat) (x5 : Int32) (σ : Sg) (r : Sg), lp (fX7_countClashes_L121 x1 x2 x3 x4 rec28 rec40) n (x5, σ) = some r → Go true 12 iX7_countClashes (121, [some (.ref 60), some (.int x1), some (.int x2), some (.int x3), some (.int x4), some (.int x5), none], [], σ) (.inl none, r) := by
  intro n
  induction n with
  | zero => intro x5 σ r hf; cases hf
  | succ n ih =>
    intro x5 σ r hf
    have hf : fX7_countClashes_L121 x1 x2 x3 x4 rec28 rec40 (lp (fX7_countClashes_L121 x1 x2 x3 x4 rec28 rec40) n) (x5, σ) = some r := hf
    have hrec121 := ih
    generalize lp (fX7_countClashes_L121 x1 x2 x3 x4 rec28 rec40) n = rec121 at hf hrec121
    unfold fX7_countClashes_L121 at hf
    dsimp only at hf
    refine go_n 2 (f := (125, [some (.ref 60), some (.int x1), some (.int x2), some (.int x3), some (.int x4), some (.int x5), none], [.int 9, .int x5], σ)) rfl ?_
    by_cases h28 : 9 ≤ x5
    · rw [if_pos h28] at hf
      refine go_it (t := 205) (f := 128) (L1 := [some (.ref 60), some (.int x1), some (.int x2), some (.int x3), some (.int x4), some (.int x5), none]) (st1 := []) (σ1 := σ) rfl h28 ?_
      refine go_e (L1 := [some (.ref 60), some (.int x1), some (.int x2), none, none, none, none]) rfl rfl ?_
      exact fX7_countClashes_J205_ok _ _ _ _ _ hrec28 hrec40 _ hf
    · rw [if_neg h28] at hf
      refine go_if (t := 205) (f := 128) (L1 := [some (.ref 60), some (.int x1), some (.int x2), some (.int x3), some (.int x4), some (.int x5), none]) (st1 := []) (σ1 := σ) rfl h28 ?_
      refine go_n 2 (f := (131, [some (.ref 60), some (.int x1), some (.int x2), some (.int x3), some (.int x4), some (.int x5), some (.int 0)], [], σ)) rfl ?_
      exact fX7_countClashes_L131_ok _ _ _ _ _ _ _ _ hrec28 hrec40 hrec121 N0 _ _ _ hf
def fX7_countClashes_J86 (x1 : Int32) (x2 : Int32) (x3 : Int32) (s0 : Int32) (rec28 : (Int32 × Sg) → Option Sg) (rec40 : (Int32 × Sg) → Option Sg) (σ : Sg) : Option Sg :=
  if x3 = (-1) then fX7_countClashes_J205 x1 x2 rec28 rec40 σ else if s0 ≤ x3 then fX7_countClashes_J205 x1 x2 rec28 rec40 σ else (fX7_at x1 σ).bind fun q21 => (fX7_at x2 σ).bind fun q23 => (fX7_likeOf q21 q23 σ).bind fun q25 => if q25 ≤ 50 then fX7_countClashes_J205 x1 x2 rec28 rec40 σ else lp (fX7_countClashes_L121 x1 x2 x3 s0 rec28 rec40) N0 (0, σ)
set_option maxHeartbeats 1500000 in
theorem fX7_countClashes_J86_ok (x1 : Int32) (x2 : Int32) (x3 : Int32) (s0 : Int32) (rec28 : (Int32 × Sg) → Option Sg) (rec40 : (Int32 × Sg) → Option Sg) (σ : Sg) (hrec28 : ∀ (y1 : Int32) (τ : Sg) (r : Sg), rec28 (y1, τ) = some r → Go true 12 iX7_countClashes (28, [some (.ref 60), some (.int y1), none, none, none, none, none], [], τ) (.inl none, r)) (hrec40 : ∀ (y2 : Int32) (τ : Sg) (r : Sg), rec40 (y2, τ) = some r → Go true 12 iX7_countClashes (40, [some (.ref 60), some (.int x1), some (.int y2), none, none, none, none], [], τ) (.inl none, r)) (r : Sg) (hf : fX7_countClashes_J86 x1 x2 x3 s0 rec28 rec40 σ = some r) : Go true 12 iX7_countClashes (86, [some (.ref 60), some (.int x1), some (.int x2), some (.int x3), none, none, none], [.int s0], σ) (.inl none, r) := by
  unfold fX7_countClashes_J86 at hf
  refine go_n 3 (f := (90, [some (.ref 60), some (.int x1), some (.int x2), some (.int x3), some (.int s0), none, none], [.int (-1), .int x3], σ)) rfl ?_
  by_cases h19 : x3 = (-1)
  · rw [if_pos h19] at hf
    refine go_it (t := 205) (f := 93) (L1 := [some (.ref 60), some (.int x1), some (.int x2), some (.int x3), some (.int s0), none, none]) (st1 := []) (σ1 := σ) rfl h19 ?_
    refine go_e (L1 := [some (.ref 60), some (.int x1), some (.int x2), none, none, none, none]) rfl rfl ?_
    exact fX7_countClashes_J205_ok _ _ _ _ _ hrec28 hrec40 _ hf
  · rw [if_neg h19] at hf
    refine go_if (t := 205) (f := 93) (L1 := [some (.ref 60), some (.int x1), some (.int x2), some (.int x3), some (.int s0), none, none]) (st1 := []) (σ1 := σ) rfl h19 ?_
    refine go_n 2 (f := (96, [some (.ref 60), some (.int x1), some (.int x2), some (.int x3), some (.int s0), none, none], [.int s0, .int x3], σ)) rfl ?_
    by_cases h20 : s0 ≤ x3
    · rw [if_pos h20] at hf
      refine go_it (t := 205) (f := 99) (L1 := [some (.ref 60), some (.int x1), some (.int x2), some (.int x3), some (.int s0), none, none]) (st1 := []) (σ1 := σ) rfl h20 ?_
      refine go_e (L1 := [some (.ref 60), some (.int x1), some (.int x2), none, none, none, none]) rfl rfl ?_
      exact fX7_countClashes_J205_ok _ _ _ _ _ hrec28 hrec40 _ hf
    · rw [if_neg h20] at hf
      refine go_if (t := 205) (f := 99) (L1 := [some (.ref 60), some (.int x1), some (.int x2), some (.int x3), some (.int s0), none, none]) (st1 := []) (σ1 := σ) rfl h20 ?_
      refine go_n 3 (f := (102, [some (.ref 60), some (.int x1), some (.int x2), some (.int x3), some (.int s0), none, none], [.int x1, .ref 60, .ref 60], σ)) rfl ?_
      obtain ⟨q21, h22, hf⟩ := bnd hf
      refine go_c (mid := 12132) (args := [.ref 60, .int x1]) (pc := 105) (L := [some (.ref 60), some (.int x1), some (.int x2), some (.int x3), some (.int s0), none, none]) (st := [.ref 60]) (σ := σ) rfl ((fX7_at_ok _ _ q21 h22).deep (Nat.le_of_ble_eq_true rfl)) ?_
      refine go_n 2 (f := (107, [some (.ref 60), some (.int x1), some (.int x2), some (.int x3), some (.int s0), none, none], [.int x2, .ref 60, .int q21, .ref 60], σ)) rfl ?_
      obtain ⟨q23, h24, hf⟩ := bnd hf
      refine go_c (mid := 12132) (args := [.ref 60, .int x2]) (pc := 110) (L := [some (.ref 60), some (.int x1), some (.int x2), some (.int x3), some (.int s0), none, none]) (st := [.int q21, .ref 60]) (σ := σ) rfl ((fX7_at_ok _ _ q23 h24).deep (Nat.le_of_ble_eq_true rfl)) ?_
      obtain ⟨q25, h26, hf⟩ := bnd hf
      refine go_c (mid := 12143) (args := [.ref 60, .int q21, .int q23]) (pc := 113) (L := [some (.ref 60), some (.int x1), some (.int x2), some (.int x3), some (.int s0), none, none]) (st := []) (σ := σ) rfl ((fX7_likeOf_ok _ _ _ q25 h26).deep (Nat.le_of_ble_eq_true rfl)) ?_
      refine go_n 1 (f := (115, [some (.ref 60), some (.int x1), some (.int x2), some (.int x3), some (.int s0), none, none], [.int 50, .int q25], σ)) rfl ?_
      by_cases h27 : q25 ≤ 50
      · rw [if_pos h27] at hf
        refine go_it (t := 205) (f := 118) (L1 := [some (.ref 60), some (.int x1), some (.int x2), some (.int x3), some (.int s0), none, none]) (st1 := []) (σ1 := σ) rfl h27 ?_
        refine go_e (L1 := [some (.ref 60), some (.int x1), some (.int x2), none, none, none, none]) rfl rfl ?_
        exact fX7_countClashes_J205_ok _ _ _ _ _ hrec28 hrec40 _ hf
      · rw [if_neg h27] at hf
        refine go_if (t := 205) (f := 118) (L1 := [some (.ref 60), some (.int x1), some (.int x2), some (.int x3), some (.int s0), none, none]) (st1 := []) (σ1 := σ) rfl h27 ?_
        refine go_n 2 (f := (121, [some (.ref 60), some (.int x1), some (.int x2), some (.int x3), some (.int s0), some (.int 0), none], [], σ)) rfl ?_
        exact fX7_countClashes_L121_ok _ _ _ _ _ _ hrec28 hrec40 N0 _ _ _ hf
def fX7_countClashes_L40 (x1 : Int32) (rec28 : (Int32 × Sg) → Option Sg) (rec40 : (Int32 × Sg) → Option Sg) (s : Int32 × Sg) : Option Sg :=
  match s with
  | (x2, σ) => if (gi σ 61 2) ≤ x2 then rec28 ((x1 + 1), σ) else (fX7_sourceOf x1 σ).bind fun q6 => (fX7_wishOf q6 σ).bind fun q8 => (fX7_sourceOf x2 σ).bind fun q10 => (fX7_wishOf q10 σ).bind fun q12 => if q12 ≠ (-1) then (fX7_sourceOf x2 σ).bind fun q15 => (fX7_wishOf q15 σ).bind fun q17 => fX7_countClashes_J86 x1 x2 q8 q17 rec28 rec40 σ else fX7_countClashes_J86 x1 x2 q8 5 rec28 rec40 σ
set_option maxHeartbeats 1500000 in
theorem fX7_countClashes_L40_ok (x1 : Int32) (rec28 : (Int32 × Sg) → Option Sg) (hrec28 : ∀ (y1 : Int32) (τ : Sg) (r : Sg), rec28 (y1, τ) = some r → Go true 12 iX7_countClashes (28, [some (.ref 60), some (.int y1), none, none, none, none, none], [], τ) (.inl none, r)) : ∀ (n : Nat) (x2 : Int32) (σ : Sg) (r : Sg), lp (fX7_countClashes_L40 x1 rec28) n (x2, σ) = some r → Go true 12 iX7_countClashes (40, [some (.ref 60), some (.int x1), some (.int x2), none, none, none, none], [], σ) (.inl none, r) := by
  intro n
  induction n with
  | zero => intro x2 σ r hf; cases hf
  | succ n ih =>
    intro x2 σ r hf
    have hf : fX7_countClashes_L40 x1 rec28 (lp (fX7_countClashes_L40 x1 rec28) n) (x2, σ) = some r := hf
    have hrec40 := ih
    generalize lp (fX7_countClashes_L40 x1 rec28) n = rec40 at hf hrec40
    unfold fX7_countClashes_L40 at hf
    dsimp only at hf
    refine go_n 5 (f := (47, [some (.ref 60), some (.int x1), some (.int x2), none, none, none, none], [.int (gi σ 61 2), .int x2], σ)) rfl ?_
    by_cases h5 : (gi σ 61 2) ≤ x2
    · rw [if_pos h5] at hf
      refine go_it (t := 211) (f := 50) (L1 := [some (.ref 60), some (.int x1), some (.int x2), none, none, none, none]) (st1 := []) (σ1 := σ) rfl h5 ?_
      refine go_n 2 (f := (28, [some (.ref 60), some (.int (x1 + 1)), some (.int x2), none, none, none, none], [], σ)) rfl ?_
      refine go_e (L1 := [some (.ref 60), some (.int (x1 + 1)), none, none, none, none, none]) rfl rfl ?_
      exact hrec28 _ _ _ hf
    · rw [if_neg h5] at hf
      refine go_if (t := 211) (f := 50) (L1 := [some (.ref 60), some (.int x1), some (.int x2), none, none, none, none]) (st1 := []) (σ1 := σ) rfl h5 ?_
      refine go_n 3 (f := (53, [some (.ref 60), some (.int x1), some (.int x2), none, none, none, none], [.int x1, .ref 60, .ref 60], σ)) rfl ?_
      obtain ⟨q6, h7, hf⟩ := bnd hf
      refine go_c (mid := 12066) (args := [.ref 60, .int x1]) (pc := 56) (L := [some (.ref 60), some (.int x1), some (.int x2), none, none, none, none]) (st := [.ref 60]) (σ := σ) rfl ((fX7_sourceOf_ok _ _ q6 h7).deep (Nat.le_of_ble_eq_true rfl)) ?_
      obtain ⟨q8, h9, hf⟩ := bnd hf
      refine go_c (mid := 12155) (args := [.ref 60, .int q6]) (pc := 59) (L := [some (.ref 60), some (.int x1), some (.int x2), none, none, none, none]) (st := []) (σ := σ) rfl ((fX7_wishOf_ok _ _ q8 h9).deep (Nat.le_of_ble_eq_true rfl)) ?_
      refine go_n 4 (f := (63, [some (.ref 60), some (.int x1), some (.int x2), some (.int q8), none, none, none], [.int x2, .ref 60, .ref 60], σ)) rfl ?_
      obtain ⟨q10, h11, hf⟩ := bnd hf
      refine go_c (mid := 12066) (args := [.ref 60, .int x2]) (pc := 66) (L := [some (.ref 60), some (.int x1), some (.int x2), some (.int q8), none, none, none]) (st := [.ref 60]) (σ := σ) rfl ((fX7_sourceOf_ok _ _ q10 h11).deep (Nat.le_of_ble_eq_true rfl)) ?_
      obtain ⟨q12, h13, hf⟩ := bnd hf
      refine go_c (mid := 12155) (args := [.ref 60, .int q10]) (pc := 69) (L := [some (.ref 60), some (.int x1), some (.int x2), some (.int q8), none, none, none]) (st := []) (σ := σ) rfl ((fX7_wishOf_ok _ _ q12 h13).deep (Nat.le_of_ble_eq_true rfl)) ?_
      refine go_n 1 (f := (70, [some (.ref 60), some (.int x1), some (.int x2), some (.int q8), none, none, none], [.int (-1), .int q12], σ)) rfl ?_
      by_cases h14 : q12 ≠ (-1)
      · rw [if_pos h14] at hf
        refine go_it (t := 77) (f := 73) (L1 := [some (.ref 60), some (.int x1), some (.int x2), some (.int q8), none, none, none]) (st1 := []) (σ1 := σ) rfl h14 ?_
        refine go_n 3 (f := (80, [some (.ref 60), some (.int x1), some (.int x2), some (.int q8), none, none, none], [.int x2, .ref 60, .ref 60], σ)) rfl ?_
        obtain ⟨q15, h16, hf⟩ := bnd hf
        refine go_c (mid := 12066) (args := [.ref 60, .int x2]) (pc := 83) (L := [some (.ref 60), some (.int x1), some (.int x2), some (.int q8), none, none, none]) (st := [.ref 60]) (σ := σ) rfl ((fX7_sourceOf_ok _ _ q15 h16).deep (Nat.le_of_ble_eq_true rfl)) ?_
        obtain ⟨q17, h18, hf⟩ := bnd hf
        refine go_c (mid := 12155) (args := [.ref 60, .int q15]) (pc := 86) (L := [some (.ref 60), some (.int x1), some (.int x2), some (.int q8), none, none, none]) (st := []) (σ := σ) rfl ((fX7_wishOf_ok _ _ q17 h18).deep (Nat.le_of_ble_eq_true rfl)) ?_
        exact fX7_countClashes_J86_ok _ _ _ _ _ _ _ hrec28 hrec40 _ hf
      · rw [if_neg h14] at hf
        refine go_if (t := 77) (f := 73) (L1 := [some (.ref 60), some (.int x1), some (.int x2), some (.int q8), none, none, none]) (st1 := []) (σ1 := σ) rfl h14 ?_
        refine go_n 2 (f := (86, [some (.ref 60), some (.int x1), some (.int x2), some (.int q8), none, none, none], [.int 5], σ)) rfl ?_
        exact fX7_countClashes_J86_ok _ _ _ _ _ _ _ hrec28 hrec40 _ hf
def fX7_countClashes_L28   (rec28 : (Int32 × Sg) → Option Sg) (s : Int32 × Sg) : Option Sg :=
  match s with
  | (x1, σ) => if (gi σ 61 2) ≤ x1 then some σ else lp (fX7_countClashes_L40 x1 rec28) N0 (0, σ)
set_option maxHeartbeats 1500000 in
theorem fX7_countClashes_L28_ok    : ∀ (n : Nat) (x1 : Int32) (σ : Sg) (r : Sg), lp (fX7_countClashes_L28  ) n (x1, σ) = some r → Go true 12 iX7_countClashes (28, [some (.ref 60), some (.int x1), none, none, none, none, none], [], σ) (.inl none, r) := by
  intro n
  induction n with
  | zero => intro x1 σ r hf; cases hf
  | succ n ih =>
    intro x1 σ r hf
    have hf : fX7_countClashes_L28   (lp (fX7_countClashes_L28  ) n) (x1, σ) = some r := hf
    have hrec28 := ih
    generalize lp (fX7_countClashes_L28  ) n = rec28 at hf hrec28
    unfold fX7_countClashes_L28 at hf
    dsimp only at hf
    refine go_n 5 (f := (35, [some (.ref 60), some (.int x1), none, none, none, none, none], [.int (gi σ 61 2), .int x1], σ)) rfl ?_
    by_cases h4 : (gi σ 61 2) ≤ x1
    · rw [if_pos h4] at hf
      refine go_it (t := 217) (f := 38) (L1 := [some (.ref 60), some (.int x1), none, none, none, none, none]) (st1 := []) (σ1 := σ) rfl h4 ?_
      cases hf
      exact go_r rfl
    · rw [if_neg h4] at hf
      refine go_if (t := 217) (f := 38) (L1 := [some (.ref 60), some (.int x1), none, none, none, none, none]) (st1 := []) (σ1 := σ) rfl h4 ?_
      refine go_n 2 (f := (40, [some (.ref 60), some (.int x1), some (.int 0), none, none, none, none], [], σ)) rfl ?_
      exact fX7_countClashes_L40_ok _ _ hrec28 N0 _ _ _ hf
def fX7_countClashes_L6   (rec6 : (Int32 × Sg) → Option Sg) (s : Int32 × Sg) : Option Sg :=
  match s with
  | (x1, σ) => if 2430 ≤ x1 then lp (fX7_countClashes_L28  ) N0 (0, σ) else if inb x1 2430 then rec6 ((x1 + 1), (wi σ 90 x1.toNatClampNeg 0)) else none
set_option maxHeartbeats 1500000 in
theorem fX7_countClashes_L6_ok    : ∀ (n : Nat) (x1 : Int32) (σ : Sg) (r : Sg), lp (fX7_countClashes_L6  ) n (x1, σ) = some r → Go true 12 iX7_countClashes (6, [some (.ref 60), some (.int x1), none, none, none, none, none], [], σ) (.inl none, r) := by
  intro n
  induction n with
  | zero => intro x1 σ r hf; cases hf
  | succ n ih =>
    intro x1 σ r hf
    have hf : fX7_countClashes_L6   (lp (fX7_countClashes_L6  ) n) (x1, σ) = some r := hf
    have hrec6 := ih
    generalize lp (fX7_countClashes_L6  ) n = rec6 at hf hrec6
    unfold fX7_countClashes_L6 at hf
    dsimp only at hf
    refine go_n 2 (f := (10, [some (.ref 60), some (.int x1), none, none, none, none, none], [.int 2430, .int x1], σ)) rfl ?_
    by_cases h3 : 2430 ≤ x1
    · rw [if_pos h3] at hf
      refine go_it (t := 26) (f := 13) (L1 := [some (.ref 60), some (.int x1), none, none, none, none, none]) (st1 := []) (σ1 := σ) rfl h3 ?_
      refine go_n 2 (f := (28, [some (.ref 60), some (.int 0), none, none, none, none, none], [], σ)) rfl ?_
      exact fX7_countClashes_L28_ok    N0 _ _ _ hf
    · rw [if_neg h3] at hf
      refine go_if (t := 26) (f := 13) (L1 := [some (.ref 60), some (.int x1), none, none, none, none, none]) (st1 := []) (σ1 := σ) rfl h3 ?_
      refine go_n 4 (f := (19, [some (.ref 60), some (.int x1), none, none, none, none, none], [.int 0, .int x1, .ref 90], σ)) rfl ?_
      obtain ⟨h40, hf⟩ := grd hf
      refine go_iast rfl rfl rfl h40 ?_
      refine go_n 2 (f := (6, [some (.ref 60), some (.int (x1 + 1)), none, none, none, none, none], [], (wi σ 90 x1.toNatClampNeg 0))) rfl ?_
      exact hrec6 _ _ _ hf
def fX7_countClashes  (σ : Sg) : Option Sg :=
  (fX7_findShifts  σ).bind fun q1 => lp (fX7_countClashes_L6  ) N0 (0, q1)
set_option maxHeartbeats 1500000 in
theorem fX7_countClashes_ok  (σ : Sg) (r : Sg) (hf : fX7_countClashes  σ = some r) : Cl true 12 12152 [.ref 60] σ (.inl none, r) := by
  refine ⟨iX7_countClashes, rfl, Nat.le_of_ble_eq_true rfl, Nat.le_of_ble_eq_true rfl, ?_⟩
  show Go true 12 iX7_countClashes (0, [some (.ref 60), none, none, none, none, none, none], [], σ) (.inl none, r)
  unfold fX7_countClashes at hf
  refine go_n 1 (f := (1, [some (.ref 60), none, none, none, none, none, none], [.ref 60], σ)) rfl ?_
  obtain ⟨q1, h2, hf⟩ := bnd hf
  refine go_c (mid := 12153) (args := [.ref 60]) (pc := 4) (L := [some (.ref 60), none, none, none, none, none, none]) (st := []) (σ := σ) rfl ((fX7_findShifts_ok _ q1 h2).deep (Nat.le_of_ble_eq_true rfl)) ?_
  refine go_n 2 (f := (6, [some (.ref 60), some (.int 0), none, none, none, none, none], [], q1)) rfl ?_
  exact fX7_countClashes_L6_ok    N0 _ _ _ hf
/-! OldWeatherModel.judge(II)I -/
def fX7_judge_L44   (rec44 : (Int32 × Int32 × Sg) → Option (Int32 × Sg)) (s : Int32 × Int32 × Sg) : Option (Int32 × Sg) :=
  match s with
  | (x3, x4, σ) => if (gi σ 60 61) ≤ x4 then (fX7_quarrels  σ).bind fun q14 => some (q14, σ) else if inb x4 5 then rec44 ((x3 / 9), (x4 + 1), (wi σ 91 x4.toNatClampNeg (x3 - x3 / 9 * 9))) else none
set_option maxHeartbeats 1500000 in
theorem fX7_judge_L44_ok    : ∀ (n : Nat) (x3 : Int32) (x4 : Int32) (σ : Sg) (r : (Int32 × Sg)), lp (fX7_judge_L44  ) n (x3, x4, σ) = some r → Go true 13 iX7_judge (44, [some (.ref 60), none, none, some (.int x3), some (.int x4)], [], σ) (.inl (some (.int (r).1)), (r).2) := by
  intro n
  induction n with
  | zero => intro x3 x4 σ r hf; cases hf
  | succ n ih =>
    intro x3 x4 σ r hf
    have hf : fX7_judge_L44   (lp (fX7_judge_L44  ) n) (x3, x4, σ) = some r := hf
    have hrec44 := ih
    generalize lp (fX7_judge_L44  ) n = rec44 at hf hrec44
    unfold fX7_judge_L44 at hf
    dsimp only at hf
    refine go_n 3 (f := (50, [some (.ref 60), none, none, some (.int x3), some (.int x4)], [.int (gi σ 60 61), .int x4], σ)) rfl ?_
    by_cases h13 : (gi σ 60 61) ≤ x4
    · rw [if_pos h13] at hf
      refine go_it (t := 75) (f := 53) (L1 := [some (.ref 60), none, none, some (.int x3), some (.int x4)]) (st1 := []) (σ1 := σ) rfl h13 ?_
      refine go_n 1 (f := (76, [some (.ref 60), none, none, some (.int x3), some (.int x4)], [.ref 60], σ)) rfl ?_
      obtain ⟨q14, h15, hf⟩ := bnd hf
      refine go_c (mid := 12158) (args := [.ref 60]) (pc := 79) (L := [some (.ref 60), none, none, some (.int x3), some (.int x4)]) (st := []) (σ := σ) rfl ((fX7_quarrels_ok _ q14 h15).deep (Nat.le_of_ble_eq_true rfl)) ?_
      cases hf
      exact go_r rfl
    · rw [if_neg h13] at hf
      refine go_if (t := 75) (f := 53) (L1 := [some (.ref 60), none, none, some (.int x3), some (.int x4)]) (st1 := []) (σ1 := σ) rfl h13 ?_
      refine go_n 5 (f := (62, [some (.ref 60), none, none, some (.int x3), some (.int x4)], [.int 9, .int x3, .int x4, .ref 91], σ)) rfl ?_
      refine go_irem rfl rfl (by decide) ?_
      obtain ⟨h16, hf⟩ := grd hf
      refine go_iast rfl rfl rfl h16 ?_
      refine go_n 2 (f := (67, [some (.ref 60), none, none, some (.int x3), some (.int x4)], [.int 9, .int x3], (wi σ 91 x4.toNatClampNeg (x3 - x3 / 9 * 9)))) rfl ?_
      refine go_idiv rfl rfl (by decide) ?_
      refine go_n 2 (f := (72, [some (.ref 60), none, none, some (.int (x3 / 9)), some (.int (x4 + 1))], [], (wi σ 91 x4.toNatClampNeg (x3 - x3 / 9 * 9)))) rfl ?_
      refine go_n 1 (f := (44, [some (.ref 60), none, none, some (.int (x3 / 9)), some (.int (x4 + 1))], [], (wi σ 91 x4.toNatClampNeg (x3 - x3 / 9 * 9)))) rfl ?_
      exact hrec44 _ _ _ _ hf
def fX7_judge (x1 : Int32) (x2 : Int32) (σ : Sg) : Option (Int32 × Sg) :=
  (fX7_rowsOf  (wi σ 60 0 0)).bind fun q1 => (fX7_in x1.toInt64 0 (q1.toInt64 - 1)).bind fun q3 => if q3 = 0 then some ((-1), (wi σ 60 0 0)) else (fX7_isKnown x2).bind fun q6 => if q6 ≠ 0 then (fX7_knowBy x2 (wi σ 60 0 0)).bind fun q9 => (fX7_countClashes  q9).bind fun q11 => lp (fX7_judge_L44  ) N0 (x1, 0, q11) else some ((-1), (wi σ 60 0 0))
set_option maxHeartbeats 1500000 in
theorem fX7_judge_ok (x1 : Int32) (x2 : Int32) (σ : Sg) (r : (Int32 × Sg)) (hf : fX7_judge x1 x2 σ = some r) : Cl true 13 12160 [.ref 60, .int x1, .int x2] σ (.inl (some (.int (r).1)), (r).2) := by
  refine ⟨iX7_judge, rfl, Nat.le_of_ble_eq_true rfl, Nat.le_of_ble_eq_true rfl, ?_⟩
  show Go true 13 iX7_judge (0, [some (.ref 60), some (.int x1), some (.int x2), none, none], [], σ) (.inl (some (.int (r).1)), (r).2)
  unfold fX7_judge at hf
  refine go_n 7 (f := (9, [some (.ref 60), some (.int x1), some (.int x2), none, none], [.ref 60, .long 0, .long x1.toInt64], (wi σ 60 0 0))) rfl ?_
  obtain ⟨q1, h2, hf⟩ := bnd hf
  refine go_c (mid := 12157) (args := [.ref 60]) (pc := 12) (L := [some (.ref 60), some (.int x1), some (.int x2), none, none]) (st := [.long 0, .long x1.toInt64]) (σ := (wi σ 60 0 0)) rfl ((fX7_rowsOf_ok _ q1 h2).deep (Nat.le_of_ble_eq_true rfl)) ?_
  refine go_n 3 (f := (15, [some (.ref 60), some (.int x1), some (.int x2), none, none], [.long (q1.toInt64 - 1), .long 0, .long x1.toInt64], (wi σ 60 0 0))) rfl ?_
  obtain ⟨q3, h4, hf⟩ := bnd hf
  refine go_c (mid := 12034) (args := [.long x1.toInt64, .long 0, .long (q1.toInt64 - 1)]) (pc := 18) (L := [some (.ref 60), some (.int x1), some (.int x2), none, none]) (st := []) (σ := (wi σ 60 0 0)) rfl ((fX7_in_ok _ _ _ _ q3 h4).deep (Nat.le_of_ble_eq_true rfl)) ?_
  by_cases h5 : q3 = 0
  · rw [if_pos h5] at hf
    refine go_it (t := 28) (f := 21) (L1 := [some (.ref 60), some (.int x1), some (.int x2), none, none]) (st1 := []) (σ1 := (wi σ 60 0 0)) rfl h5 ?_
    refine go_e (L1 := [none, none, none, none, none]) rfl rfl ?_
    refine go_n 1 (f := (29, [none, none, none, none, none], [.int (-1)], (wi σ 60 0 0))) rfl ?_
    cases hf
    exact go_r rfl
  · rw [if_neg h5] at hf
    refine go_if (t := 28) (f := 21) (L1 := [some (.ref 60), some (.int x1), some (.int x2), none, none]) (st1 := []) (σ1 := (wi σ 60 0 0)) rfl h5 ?_
    refine go_n 1 (f := (22, [some (.ref 60), some (.int x1), some (.int x2), none, none], [.int x2], (wi σ 60 0 0))) rfl ?_
    obtain ⟨q6, h7, hf⟩ := bnd hf
    refine go_c (mid := 12057) (args := [.int x2]) (pc := 25) (L := [some (.ref 60), some (.int x1), some (.int x2), none, none]) (st := []) (σ := (wi σ 60 0 0)) rfl ((fX7_isKnown_ok _ _ q6 h7).deep (Nat.le_of_ble_eq_true rfl)) ?_
    by_cases h8 : q6 ≠ 0
    · rw [if_pos h8] at hf
      refine go_it (t := 30) (f := 28) (L1 := [some (.ref 60), some (.int x1), some (.int x2), none, none]) (st1 := []) (σ1 := (wi σ 60 0 0)) rfl h8 ?_
      refine go_n 2 (f := (32, [some (.ref 60), some (.int x1), some (.int x2), none, none], [.int x2, .ref 60], (wi σ 60 0 0))) rfl ?_
      obtain ⟨q9, h10, hf⟩ := bnd hf
      refine go_c (mid := 12107) (args := [.ref 60, .int x2]) (pc := 35) (L := [some (.ref 60), some (.int x1), some (.int x2), none, none]) (st := []) (σ := (wi σ 60 0 0)) rfl ((fX7_knowBy_ok _ _ q9 h10).deep (Nat.le_of_ble_eq_true rfl)) ?_
      refine go_n 1 (f := (36, [some (.ref 60), some (.int x1), some (.int x2), none, none], [.ref 60], q9)) rfl ?_
      obtain ⟨q11, h12, hf⟩ := bnd hf
      refine go_c (mid := 12152) (args := [.ref 60]) (pc := 39) (L := [some (.ref 60), some (.int x1), some (.int x2), none, none]) (st := []) (σ := q9) rfl ((fX7_countClashes_ok _ q11 h12).deep (Nat.le_of_ble_eq_true rfl)) ?_
      refine go_n 4 (f := (44, [some (.ref 60), some (.int x1), some (.int x2), some (.int x1), some (.int 0)], [], q11)) rfl ?_
      refine go_e (L1 := [some (.ref 60), none, none, some (.int x1), some (.int 0)]) rfl rfl ?_
      exact fX7_judge_L44_ok    N0 _ _ _ _ hf
    · rw [if_neg h8] at hf
      refine go_if (t := 30) (f := 28) (L1 := [some (.ref 60), some (.int x1), some (.int x2), none, none]) (st1 := []) (σ1 := (wi σ 60 0 0)) rfl h8 ?_
      refine go_e (L1 := [none, none, none, none, none]) rfl rfl ?_
      refine go_n 1 (f := (29, [none, none, none, none, none], [.int (-1)], (wi σ 60 0 0))) rfl ?_
      cases hf
      exact go_r rfl
/-! OldWeatherModel.findWinter(II)V -/
def fX7_findWinter (x1 : Int32) (x2 : Int32) (σ : Sg) : Option Sg :=
  (fX7_addDays x1 (x2 - 1) 12 (wi (wi (wi σ 60 74 0) 60 75 0) 60 76 0)).bind fun q1 => (fX7_addDays x1 x2 1 q1).bind fun q3 => (fX7_addDays x1 x2 2 q3).bind fun q5 => some q5
set_option maxHeartbeats 1500000 in
theorem fX7_findWinter_ok (x1 : Int32) (x2 : Int32) (σ : Sg) (r : Sg) (hf : fX7_findWinter x1 x2 σ = some r) : Cl true 13 12164 [.ref 60, .int x1, .int x2] σ (.inl none, r) := by
  refine ⟨iX7_findWinter, rfl, Nat.le_of_ble_eq_true rfl, Nat.le_of_ble_eq_true rfl, ?_⟩
  show Go true 13 iX7_findWinter (0, [some (.ref 60), some (.int x1), some (.int x2)], [], σ) (.inl none, r)
  unfold fX7_findWinter at hf
  refine go_n 6 (f := (10, [some (.ref 60), some (.int x1), some (.int x2)], [], (wi (wi σ 60 74 0) 60 75 0))) rfl ?_
  refine go_n 9 (f := (22, [some (.ref 60), some (.int x1), some (.int x2)], [.int 12, .int (x2 - 1), .int x1, .ref 60], (wi (wi (wi σ 60 74 0) 60 75 0) 60 76 0))) rfl ?_
  obtain ⟨q1, h2, hf⟩ := bnd hf
  refine go_c (mid := 12165) (args := [.ref 60, .int x1, .int (x2 - 1), .int 12]) (pc := 25) (L := [some (.ref 60), some (.int x1), some (.int x2)]) (st := []) (σ := (wi (wi (wi σ 60 74 0) 60 75 0) 60 76 0)) rfl ((fX7_addDays_ok _ _ _ _ q1 h2).deep (Nat.le_of_ble_eq_true rfl)) ?_
  refine go_n 4 (f := (29, [some (.ref 60), some (.int x1), some (.int x2)], [.int 1, .int x2, .int x1, .ref 60], q1)) rfl ?_
  obtain ⟨q3, h4, hf⟩ := bnd hf
  refine go_c (mid := 12165) (args := [.ref 60, .int x1, .int x2, .int 1]) (pc := 32) (L := [some (.ref 60), some (.int x1), some (.int x2)]) (st := []) (σ := q1) rfl ((fX7_addDays_ok _ _ _ _ q3 h4).deep (Nat.le_of_ble_eq_true rfl)) ?_
  refine go_n 4 (f := (36, [some (.ref 60), some (.int x1), some (.int x2)], [.int 2, .int x2, .int x1, .ref 60], q3)) rfl ?_
  obtain ⟨q5, h6, hf⟩ := bnd hf
  refine go_c (mid := 12165) (args := [.ref 60, .int x1, .int x2, .int 2]) (pc := 39) (L := [some (.ref 60), some (.int x1), some (.int x2)]) (st := []) (σ := q3) rfl ((fX7_addDays_ok _ _ _ _ q5 h6).deep (Nat.le_of_ble_eq_true rfl)) ?_
  cases hf
  exact go_r rfl
/-! OldWeatherModel.rank(IIIIII)I -/
def fX7_rank_J209 (x1 : Int32) (x2 : Int32) (x4 : Int32) (x6 : Int32) (x7 : Int64) (x9 : Int64) (x11 : Int64) (x13 : Int32) (x14 : Int32) (rec114 : (Int32 × Int32 × Sg) → Option (Int32 × Sg)) (σ : Sg) : Option (Int32 × Sg) :=
  rec114 (x13, (x14 + 1), σ)
set_option maxHeartbeats 1500000 in
theorem fX7_rank_J209_ok (x1 : Int32) (x2 : Int32) (x4 : Int32) (x6 : Int32) (x7 : Int64) (x9 : Int64) (x11 : Int64) (x13 : Int32) (x14 : Int32) (rec114 : (Int32 × Int32 × Sg) → Option (Int32 × Sg)) (σ : Sg) (hrec114 : ∀ (y13 : Int32) (y14 : Int32) (τ : Sg) (r : (Int32 × Sg)), rec114 (y13, y14, τ) = some r → Go true 14 iX7_rank (114, [some (.ref 60), some (.int x1), some (.int x2), none, some (.int x4), none, some (.int x6), some (.long x7), none, some (.long x9), none, some (.long x11), none, some (.int y13), some (.int y14), none], [], τ) (.inl (some (.int (r).1)), (r).2)) (r : (Int32 × Sg)) (hf : fX7_rank_J209 x1 x2 x4 x6 x7 x9 x11 x13 x14 rec114 σ = some r) : Go true 14 iX7_rank (209, [some (.ref 60), some (.int x1), some (.int x2), none, some (.int x4), none, some (.int x6), some (.long x7), none, some (.long x9), none, some (.long x11), none, some (.int x13), some (.int x14), none], [], σ) (.inl (some (.int (r).1)), (r).2) := by
  unfold fX7_rank_J209 at hf
  refine go_n 2 (f := (114, [some (.ref 60), some (.int x1), some (.int x2), none, some (.int x4), none, some (.int x6), some (.long x7), none, some (.long x9), none, some (.long x11), none, some (.int x13), some (.int (x14 + 1)), none], [], σ)) rfl ?_
  exact hrec114 _ _ _ _ hf
def fX7_rank_L114 (x1 : Int32) (x2 : Int32) (x4 : Int32) (x6 : Int32) (x7 : Int64) (x9 : Int64) (x11 : Int64)  (rec114 : (Int32 × Int32 × Sg) → Option (Int32 × Sg)) (s : Int32 × Int32 × Sg) : Option (Int32 × Sg) :=
  match s with
  | (x13, x14, σ) => if x4 < x14 then some (x13, σ) else if x14 = x2 then fX7_rank_J209 x1 x2 x4 x6 x7 x9 x11 x13 x14 rec114 σ else (fX7_findWinter x1 x14 σ).bind fun q28 => ((fun (z33 : Int32) => ((fun (z35 : Int32) => fX7_rank_J209 x1 x2 x4 x6 x7 x9 x11 (x13 + z35) x14 rec114 q28) ((if z33 = 0 then 0 else 1) : Int32))) ((if x6 ≠ 0 then (if (x11 * (gi q28 60 74).toInt64) ≤ ((gi q28 60 75).toInt64 * x7) then 0 else 1) else (if (x9 * (gi q28 60 74).toInt64) ≤ ((gi q28 60 76).toInt64 * x7) then 0 else 1)) : Int32))
set_option maxHeartbeats 1500000 in
theorem fX7_rank_L114_ok (x1 : Int32) (x2 : Int32) (x4 : Int32) (x6 : Int32) (x7 : Int64) (x9 : Int64) (x11 : Int64)   : ∀ (n : Nat) (x13 : Int32) (x14 : Int32) (σ : Sg) (r : (Int32 × Sg)), lp (fX7_rank_L114 x1 x2 x4 x6 x7 x9 x11 ) n (x13, x14, σ) = some r → Go true 14 iX7_rank (114, [some (.ref 60), some (.int x1), some (.int x2), none, some (.int x4), none, some (.int x6), some (.long x7), none, some (.long x9), none, some (.long x11), none, some (.int x13), some (.int x14), none], [], σ) (.inl (some (.int (r).1)), (r).2) := by
  intro n
  induction n with
  | zero => intro x13 x14 σ r hf; cases hf
  | succ n ih =>
    intro x13 x14 σ r hf
    have hf : fX7_rank_L114 x1 x2 x4 x6 x7 x9 x11  (lp (fX7_rank_L114 x1 x2 x4 x6 x7 x9 x11 ) n) (x13, x14, σ) = some r := hf
    have hrec114 := ih
    generalize lp (fX7_rank_L114 x1 x2 x4 x6 x7 x9 x11 ) n = rec114 at hf hrec114
    unfold fX7_rank_L114 at hf
    dsimp only at hf
    refine go_n 2 (f := (118, [some (.ref 60), some (.int x1), some (.int x2), none, some (.int x4), none, some (.int x6), some (.long x7), none, some (.long x9), none, some (.long x11), none, some (.int x13), some (.int x14), none], [.int x4, .int x14], σ)) rfl ?_
    by_cases h26 : x4 < x14
    · rw [if_pos h26] at hf
      refine go_it (t := 215) (f := 121) (L1 := [some (.ref 60), some (.int x1), some (.int x2), none, some (.int x4), none, some (.int x6), some (.long x7), none, some (.long x9), none, some (.long x11), none, some (.int x13), some (.int x14), none]) (st1 := []) (σ1 := σ) rfl h26 ?_
      refine go_n 1 (f := (217, [some (.ref 60), some (.int x1), some (.int x2), none, some (.int x4), none, some (.int x6), some (.long x7), none, some (.long x9), none, some (.long x11), none, some (.int x13), some (.int x14), none], [.int x13], σ)) rfl ?_
      cases hf
      exact go_r rfl
    · rw [if_neg h26] at hf
      refine go_if (t := 215) (f := 121) (L1 := [some (.ref 60), some (.int x1), some (.int x2), none, some (.int x4), none, some (.int x6), some (.long x7), none, some (.long x9), none, some (.long x11), none, some (.int x13), some (.int x14), none]) (st1 := []) (σ1 := σ) rfl h26 ?_
      refine go_n 2 (f := (124, [some (.ref 60), some (.int x1), some (.int x2), none, some (.int x4), none, some (.int x6), some (.long x7), none, some (.long x9), none, some (.long x11), none, some (.int x13), some (.int x14), none], [.int x2, .int x14], σ)) rfl ?_
      by_cases h27 : x14 = x2
      · rw [if_pos h27] at hf
        refine go_it (t := 209) (f := 127) (L1 := [some (.ref 60), some (.int x1), some (.int x2), none, some (.int x4), none, some (.int x6), some (.long x7), none, some (.long x9), none, some (.long x11), none, some (.int x13), some (.int x14), none]) (st1 := []) (σ1 := σ) rfl h27 ?_
        exact fX7_rank_J209_ok _ _ _ _ _ _ _ _ _ _ _ hrec114 _ hf
      · rw [if_neg h27] at hf
        refine go_if (t := 209) (f := 127) (L1 := [some (.ref 60), some (.int x1), some (.int x2), none, some (.int x4), none, some (.int x6), some (.long x7), none, some (.long x9), none, some (.long x11), none, some (.int x13), some (.int x14), none]) (st1 := []) (σ1 := σ) rfl h27 ?_
        refine go_n 3 (f := (131, [some (.ref 60), some (.int x1), some (.int x2), none, some (.int x4), none, some (.int x6), some (.long x7), none, some (.long x9), none, some (.long x11), none, some (.int x13), some (.int x14), none], [.int x14, .int x1, .ref 60], σ)) rfl ?_
        obtain ⟨q28, h29, hf⟩ := bnd hf
        refine go_c (mid := 12164) (args := [.ref 60, .int x1, .int x14]) (pc := 134) (L := [some (.ref 60), some (.int x1), some (.int x2), none, some (.int x4), none, some (.int x6), some (.long x7), none, some (.long x9), none, some (.long x11), none, some (.int x13), some (.int x14), none]) (st := []) (σ := σ) rfl ((fX7_findWinter_ok _ _ _ q28 h29).deep (Nat.le_of_ble_eq_true rfl)) ?_
        refine go_n 1 (f := (136, [some (.ref 60), some (.int x1), some (.int x2), none, some (.int x4), none, some (.int x6), some (.long x7), none, some (.long x9), none, some (.long x11), none, some (.int x13), some (.int x14), none], [.int x6], q28)) rfl ?_
        refine go_m (f := (192, [some (.ref 60), some (.int x1), some (.int x2), none, some (.int x4), none, some (.int x6), some (.long x7), none, some (.long x9), none, some (.long x11), none, some (.int x13), some (.int x14), none], [.int ((if x6 ≠ 0 then (if (x11 * (gi q28 60 74).toInt64) ≤ ((gi q28 60 75).toInt64 * x7) then 0 else 1) else (if (x9 * (gi q28 60 74).toInt64) ≤ ((gi q28 60 76).toInt64 * x7) then 0 else 1)) : Int32)], q28)) ?_ (fun hJ37 => ?_)
        · generalize hz33 : ((if x6 ≠ 0 then (if (x11 * (gi q28 60 74).toInt64) ≤ ((gi q28 60 75).toInt64 * x7) then 0 else 1) else (if (x9 * (gi q28 60 74).toInt64) ≤ ((gi q28 60 76).toInt64 * x7) then 0 else 1)) : Int32) = z33 at hf ⊢
          have oz33 : am_ok 3 z33 = true := hz33 ▸ (okb (okb rfl rfl) (okb rfl rfl))
          try dsimp only at hf
          refine go_n 3 (f := (198, [some (.ref 60), some (.int x1), some (.int x2), none, some (.int x4), none, some (.int x6), some (.long x7), none, some (.long x9), none, some (.long x11), none, some (.int x13), some (.int x14), some (.int z33)], [.int z33, .int x13], q28)) rfl ?_
          refine go_m (f := (206, [some (.ref 60), some (.int x1), some (.int x2), none, some (.int x4), none, some (.int x6), some (.long x7), none, some (.long x9), none, some (.long x11), none, none, some (.int x14), none], [.int ((if z33 = 0 then 0 else 1) : Int32), .int x13], q28)) ?_ (fun hJ36 => ?_)
          · generalize hz35 : ((if z33 = 0 then 0 else 1) : Int32) = z35 at hf ⊢
            have oz35 : am_ok 3 z35 = true := hz35 ▸ (okb rfl rfl)
            try dsimp only at hf
            refine go_n 2 (f := (209, [some (.ref 60), some (.int x1), some (.int x2), none, some (.int x4), none, some (.int x6), some (.long x7), none, some (.long x9), none, some (.long x11), none, some (.int (x13 + z35)), some (.int x14), none], [], q28)) rfl ?_
            exact fX7_rank_J209_ok _ _ _ _ _ _ _ _ _ _ _ hrec114 _ hf
          · by_cases h34 : z33 = 0
            · refine go_it (t := 205) (f := 201) (L1 := [some (.ref 60), some (.int x1), some (.int x2), none, some (.int x4), none, some (.int x6), some (.long x7), none, some (.long x9), none, some (.long x11), none, some (.int x13), some (.int x14), some (.int z33)]) (st1 := [.int x13]) (σ1 := q28) rfl h34 ?_
              refine go_n 1 (f := (206, [some (.ref 60), some (.int x1), some (.int x2), none, some (.int x4), none, some (.int x6), some (.long x7), none, some (.long x9), none, some (.long x11), none, some (.int x13), some (.int x14), some (.int z33)], [.int 0, .int x13], q28)) rfl ?_
              refine go_e (L1 := [some (.ref 60), some (.int x1), some (.int x2), none, some (.int x4), none, some (.int x6), some (.long x7), none, some (.long x9), none, some (.long x11), none, none, some (.int x14), none]) rfl rfl ?_
              simp only [if_pos h34] at hJ36
              first | exact hJ36 | (simp only [if_pos h34]; exact hJ36)
            · refine go_if (t := 205) (f := 201) (L1 := [some (.ref 60), some (.int x1), some (.int x2), none, some (.int x4), none, some (.int x6), some (.long x7), none, some (.long x9), none, some (.long x11), none, some (.int x13), some (.int x14), some (.int z33)]) (st1 := [.int x13]) (σ1 := q28) rfl h34 ?_
              refine go_n 2 (f := (206, [some (.ref 60), some (.int x1), some (.int x2), none, some (.int x4), none, some (.int x6), some (.long x7), none, some (.long x9), none, some (.long x11), none, some (.int x13), some (.int x14), some (.int z33)], [.int 1, .int x13], q28)) rfl ?_
              refine go_e (L1 := [some (.ref 60), some (.int x1), some (.int x2), none, some (.int x4), none, some (.int x6), some (.long x7), none, some (.long x9), none, some (.long x11), none, none, some (.int x14), none]) rfl rfl ?_
              simp only [if_neg h34] at hJ36
              first | exact hJ36 | (simp only [if_neg h34]; exact hJ36)
        · by_cases h30 : x6 ≠ 0
          · refine go_it (t := 167) (f := 139) (L1 := [some (.ref 60), some (.int x1), some (.int x2), none, some (.int x4), none, some (.int x6), some (.long x7), none, some (.long x9), none, some (.long x11), none, some (.int x13), some (.int x14), none]) (st1 := []) (σ1 := q28) rfl h30 ?_
            refine go_n 10 (f := (183, [some (.ref 60), some (.int x1), some (.int x2), none, some (.int x4), none, some (.int x6), some (.long x7), none, some (.long x9), none, some (.long x11), none, some (.int x13), some (.int x14), none], [.long (x11 * (gi q28 60 74).toInt64), .long ((gi q28 60 75).toInt64 * x7)], q28)) rfl ?_
            refine go_n 1 (f := (184, [some (.ref 60), some (.int x1), some (.int x2), none, some (.int x4), none, some (.int x6), some (.long x7), none, some (.long x9), none, some (.long x11), none, some (.int x13), some (.int x14), none], [.int (lg_cmp ((gi q28 60 75).toInt64 * x7) (x11 * (gi q28 60 74).toInt64))], q28)) rfl ?_
            by_cases h31 : (x11 * (gi q28 60 74).toInt64) ≤ ((gi q28 60 75).toInt64 * x7)
            · refine go_it (t := 191) (f := 187) (L1 := [some (.ref 60), some (.int x1), some (.int x2), none, some (.int x4), none, some (.int x6), some (.long x7), none, some (.long x9), none, some (.long x11), none, some (.int x13), some (.int x14), none]) (st1 := []) (σ1 := q28) rfl ((lgc_ge ((gi q28 60 75).toInt64 * x7) (x11 * (gi q28 60 74).toInt64)).mpr h31) ?_
              refine go_n 1 (f := (192, [some (.ref 60), some (.int x1), some (.int x2), none, some (.int x4), none, some (.int x6), some (.long x7), none, some (.long x9), none, some (.long x11), none, some (.int x13), some (.int x14), none], [.int 0], q28)) rfl ?_
              refine go_e (L1 := [some (.ref 60), some (.int x1), some (.int x2), none, some (.int x4), none, some (.int x6), some (.long x7), none, some (.long x9), none, some (.long x11), none, some (.int x13), some (.int x14), none]) rfl rfl ?_
              simp only [if_pos h30, if_pos h31] at hJ37
              first | exact hJ37 | (simp only [if_pos h30, if_pos h31]; exact hJ37)
            · refine go_if (t := 191) (f := 187) (L1 := [some (.ref 60), some (.int x1), some (.int x2), none, some (.int x4), none, some (.int x6), some (.long x7), none, some (.long x9), none, some (.long x11), none, some (.int x13), some (.int x14), none]) (st1 := []) (σ1 := q28) rfl (fun q => h31 ((lgc_ge ((gi q28 60 75).toInt64 * x7) (x11 * (gi q28 60 74).toInt64)).mp q)) ?_
              refine go_n 2 (f := (192, [some (.ref 60), some (.int x1), some (.int x2), none, some (.int x4), none, some (.int x6), some (.long x7), none, some (.long x9), none, some (.long x11), none, some (.int x13), some (.int x14), none], [.int 1], q28)) rfl ?_
              refine go_e (L1 := [some (.ref 60), some (.int x1), some (.int x2), none, some (.int x4), none, some (.int x6), some (.long x7), none, some (.long x9), none, some (.long x11), none, some (.int x13), some (.int x14), none]) rfl rfl ?_
              simp only [if_pos h30, if_neg h31] at hJ37
              first | exact hJ37 | (simp only [if_pos h30, if_neg h31]; exact hJ37)
          · refine go_if (t := 167) (f := 139) (L1 := [some (.ref 60), some (.int x1), some (.int x2), none, some (.int x4), none, some (.int x6), some (.long x7), none, some (.long x9), none, some (.long x11), none, some (.int x13), some (.int x14), none]) (st1 := []) (σ1 := q28) rfl h30 ?_
            refine go_n 10 (f := (155, [some (.ref 60), some (.int x1), some (.int x2), none, some (.int x4), none, some (.int x6), some (.long x7), none, some (.long x9), none, some (.long x11), none, some (.int x13), some (.int x14), none], [.long (x9 * (gi q28 60 74).toInt64), .long ((gi q28 60 76).toInt64 * x7)], q28)) rfl ?_
            refine go_n 1 (f := (156, [some (.ref 60), some (.int x1), some (.int x2), none, some (.int x4), none, some (.int x6), some (.long x7), none, some (.long x9), none, some (.long x11), none, some (.int x13), some (.int x14), none], [.int (lg_cmp ((gi q28 60 76).toInt64 * x7) (x9 * (gi q28 60 74).toInt64))], q28)) rfl ?_
            by_cases h32 : (x9 * (gi q28 60 74).toInt64) ≤ ((gi q28 60 76).toInt64 * x7)
            · refine go_it (t := 163) (f := 159) (L1 := [some (.ref 60), some (.int x1), some (.int x2), none, some (.int x4), none, some (.int x6), some (.long x7), none, some (.long x9), none, some (.long x11), none, some (.int x13), some (.int x14), none]) (st1 := []) (σ1 := q28) rfl ((lgc_ge ((gi q28 60 76).toInt64 * x7) (x9 * (gi q28 60 74).toInt64)).mpr h32) ?_
              refine go_n 2 (f := (192, [some (.ref 60), some (.int x1), some (.int x2), none, some (.int x4), none, some (.int x6), some (.long x7), none, some (.long x9), none, some (.long x11), none, some (.int x13), some (.int x14), none], [.int 0], q28)) rfl ?_
              refine go_e (L1 := [some (.ref 60), some (.int x1), some (.int x2), none, some (.int x4), none, some (.int x6), some (.long x7), none, some (.long x9), none, some (.long x11), none, some (.int x13), some (.int x14), none]) rfl rfl ?_
              simp only [if_neg h30, if_pos h32] at hJ37
              first | exact hJ37 | (simp only [if_neg h30, if_pos h32]; exact hJ37)
            · refine go_if (t := 163) (f := 159) (L1 := [some (.ref 60), some (.int x1), some (.int x2), none, some (.int x4), none, some (.int x6), some (.long x7), none, some (.long x9), none, some (.long x11), none, some (.int x13), some (.int x14), none]) (st1 := []) (σ1 := q28) rfl (fun q => h32 ((lgc_ge ((gi q28 60 76).toInt64 * x7) (x9 * (gi q28 60 74).toInt64)).mp q)) ?_
              refine go_n 2 (f := (192, [some (.ref 60), some (.int x1), some (.int x2), none, some (.int x4), none, some (.int x6), some (.long x7), none, some (.long x9), none, some (.long x11), none, some (.int x13), some (.int x14), none], [.int 1], q28)) rfl ?_
              refine go_e (L1 := [some (.ref 60), some (.int x1), some (.int x2), none, some (.int x4), none, some (.int x6), some (.long x7), none, some (.long x9), none, some (.long x11), none, some (.int x13), some (.int x14), none]) rfl rfl ?_
              simp only [if_neg h30, if_neg h32] at hJ37
              first | exact hJ37 | (simp only [if_neg h30, if_neg h32]; exact hJ37)
def fX7_rank (x1 : Int32) (x2 : Int32) (x3 : Int32) (x4 : Int32) (x5 : Int32) (x6 : Int32) (σ : Sg) : Option (Int32 × Sg) :=
  (fX7_isPlace x1 (wi σ 60 0 0)).bind fun q1 => if q1 = 0 then some ((-1), (wi σ 60 0 0)) else (fX7_isWinter x3).bind fun q4 => if q4 = 0 then some ((-1), (wi σ 60 0 0)) else (fX7_isWinter x4).bind fun q7 => if q7 = 0 then some ((-1), (wi σ 60 0 0)) else (fX7_in x2.toInt64 x3.toInt64 x4.toInt64).bind fun q10 => if q10 = 0 then some ((-1), (wi σ 60 0 0)) else if 40 ≤ (x4 - x3) then some ((-1), (wi σ 60 0 0)) else (fX7_isKnown x5).bind fun q14 => if q14 = 0 then some ((-1), (wi σ 60 0 0)) else (fX7_in x6.toInt64 0 1).bind fun q17 => if q17 ≠ 0 then (fX7_knowBy x5 (wi σ 60 0 0)).bind fun q20 => (fX7_noShifts  q20).bind fun q22 => (fX7_findWinter x1 x2 q22).bind fun q24 => lp (fX7_rank_L114 x1 x2 x4 x6 (gi q24 60 74).toInt64 (gi q24 60 75).toInt64 (gi q24 60 76).toInt64 ) N0 (0, x3, q24) else some ((-1), (wi σ 60 0 0))
set_option maxHeartbeats 1500000 in
theorem fX7_rank_ok (x1 : Int32) (x2 : Int32) (x3 : Int32) (x4 : Int32) (x5 : Int32) (x6 : Int32) (σ : Sg) (r : (Int32 × Sg)) (hf : fX7_rank x1 x2 x3 x4 x5 x6 σ = some r) : Cl true 14 12166 [.ref 60, .int x1, .int x2, .int x3, .int x4, .int x5, .int x6] σ (.inl (some (.int (r).1)), (r).2) := by
  refine ⟨iX7_rank, rfl, Nat.le_of_ble_eq_true rfl, Nat.le_of_ble_eq_true rfl, ?_⟩
  show Go true 14 iX7_rank (0, [some (.ref 60), some (.int x1), some (.int x2), some (.int x3), some (.int x4), some (.int x5), some (.int x6), none, none, none, none, none, none, none, none, none], [], σ) (.inl (some (.int (r).1)), (r).2)
  unfold fX7_rank at hf
  refine go_n 5 (f := (7, [some (.ref 60), some (.int x1), some (.int x2), some (.int x3), some (.int x4), some (.int x5), some (.int x6), none, none, none, none, none, none, none, none, none], [.int x1, .ref 60], (wi σ 60 0 0))) rfl ?_
  obtain ⟨q1, h2, hf⟩ := bnd hf
  refine go_c (mid := 12048) (args := [.ref 60, .int x1]) (pc := 10) (L := [some (.ref 60), some (.int x1), some (.int x2), some (.int x3), some (.int x4), some (.int x5), some (.int x6), none, none, none, none, none, none, none, none, none]) (st := []) (σ := (wi σ 60 0 0)) rfl ((fX7_isPlace_ok _ _ q1 h2).deep (Nat.le_of_ble_eq_true rfl)) ?_
  by_cases h3 : q1 = 0
  · rw [if_pos h3] at hf
    refine go_it (t := 69) (f := 13) (L1 := [some (.ref 60), some (.int x1), some (.int x2), some (.int x3), some (.int x4), some (.int x5), some (.int x6), none, none, none, none, none, none, none, none, none]) (st1 := []) (σ1 := (wi σ 60 0 0)) rfl h3 ?_
    refine go_e (L1 := [none, none, none, none, none, none, none, none, none, none, none, none, none, none, none, none]) rfl rfl ?_
    refine go_n 1 (f := (70, [none, none, none, none, none, none, none, none, none, none, none, none, none, none, none, none], [.int (-1)], (wi σ 60 0 0))) rfl ?_
    cases hf
    exact go_r rfl
  · rw [if_neg h3] at hf
    refine go_if (t := 69) (f := 13) (L1 := [some (.ref 60), some (.int x1), some (.int x2), some (.int x3), some (.int x4), some (.int x5), some (.int x6), none, none, none, none, none, none, none, none, none]) (st1 := []) (σ1 := (wi σ 60 0 0)) rfl h3 ?_
    refine go_n 1 (f := (14, [some (.ref 60), some (.int x1), some (.int x2), some (.int x3), some (.int x4), some (.int x5), some (.int x6), none, none, none, none, none, none, none, none, none], [.int x3], (wi σ 60 0 0))) rfl ?_
    obtain ⟨q4, h5, hf⟩ := bnd hf
    refine go_c (mid := 12163) (args := [.int x3]) (pc := 17) (L := [some (.ref 60), some (.int x1), some (.int x2), some (.int x3), some (.int x4), some (.int x5), some (.int x6), none, none, none, none, none, none, none, none, none]) (st := []) (σ := (wi σ 60 0 0)) rfl ((fX7_isWinter_ok _ _ q4 h5).deep (Nat.le_of_ble_eq_true rfl)) ?_
    by_cases h6 : q4 = 0
    · rw [if_pos h6] at hf
      refine go_it (t := 69) (f := 20) (L1 := [some (.ref 60), some (.int x1), some (.int x2), some (.int x3), some (.int x4), some (.int x5), some (.int x6), none, none, none, none, none, none, none, none, none]) (st1 := []) (σ1 := (wi σ 60 0 0)) rfl h6 ?_
      refine go_e (L1 := [none, none, none, none, none, none, none, none, none, none, none, none, none, none, none, none]) rfl rfl ?_
      refine go_n 1 (f := (70, [none, none, none, none, none, none, none, none, none, none, none, none, none, none, none, none], [.int (-1)], (wi σ 60 0 0))) rfl ?_
      cases hf
      exact go_r rfl
    · rw [if_neg h6] at hf
      refine go_if (t := 69) (f := 20) (L1 := [some (.ref 60), some (.int x1), some (.int x2), some (.int x3), some (.int x4), some (.int x5), some (.int x6), none, none, none, none, none, none, none, none, none]) (st1 := []) (σ1 := (wi σ 60 0 0)) rfl h6 ?_
      refine go_n 1 (f := (22, [some (.ref 60), some (.int x1), some (.int x2), some (.int x3), some (.int x4), some (.int x5), some (.int x6), none, none, none, none, none, none, none, none, none], [.int x4], (wi σ 60 0 0))) rfl ?_
      obtain ⟨q7, h8, hf⟩ := bnd hf
      refine go_c (mid := 12163) (args := [.int x4]) (pc := 25) (L := [some (.ref 60), some (.int x1), some (.int x2), some (.int x3), some (.int x4), some (.int x5), some (.int x6), none, none, none, none, none, none, none, none, none]) (st := []) (σ := (wi σ 60 0 0)) rfl ((fX7_isWinter_ok _ _ q7 h8).deep (Nat.le_of_ble_eq_true rfl)) ?_
      by_cases h9 : q7 = 0
      · rw [if_pos h9] at hf
        refine go_it (t := 69) (f := 28) (L1 := [some (.ref 60), some (.int x1), some (.int x2), some (.int x3), some (.int x4), some (.int x5), some (.int x6), none, none, none, none, none, none, none, none, none]) (st1 := []) (σ1 := (wi σ 60 0 0)) rfl h9 ?_
        refine go_e (L1 := [none, none, none, none, none, none, none, none, none, none, none, none, none, none, none, none]) rfl rfl ?_
        refine go_n 1 (f := (70, [none, none, none, none, none, none, none, none, none, none, none, none, none, none, none, none], [.int (-1)], (wi σ 60 0 0))) rfl ?_
        cases hf
        exact go_r rfl
      · rw [if_neg h9] at hf
        refine go_if (t := 69) (f := 28) (L1 := [some (.ref 60), some (.int x1), some (.int x2), some (.int x3), some (.int x4), some (.int x5), some (.int x6), none, none, none, none, none, none, none, none, none]) (st1 := []) (σ1 := (wi σ 60 0 0)) rfl h9 ?_
        refine go_n 6 (f := (35, [some (.ref 60), some (.int x1), some (.int x2), some (.int x3), some (.int x4), some (.int x5), some (.int x6), none, none, none, none, none, none, none, none, none], [.long x4.toInt64, .long x3.toInt64, .long x2.toInt64], (wi σ 60 0 0))) rfl ?_
        obtain ⟨q10, h11, hf⟩ := bnd hf
        refine go_c (mid := 12034) (args := [.long x2.toInt64, .long x3.toInt64, .long x4.toInt64]) (pc := 38) (L := [some (.ref 60), some (.int x1), some (.int x2), some (.int x3), some (.int x4), some (.int x5), some (.int x6), none, none, none, none, none, none, none, none, none]) (st := []) (σ := (wi σ 60 0 0)) rfl ((fX7_in_ok _ _ _ _ q10 h11).deep (Nat.le_of_ble_eq_true rfl)) ?_
        by_cases h12 : q10 = 0
        · rw [if_pos h12] at hf
          refine go_it (t := 69) (f := 41) (L1 := [some (.ref 60), some (.int x1), some (.int x2), some (.int x3), some (.int x4), some (.int x5), some (.int x6), none, none, none, none, none, none, none, none, none]) (st1 := []) (σ1 := (wi σ 60 0 0)) rfl h12 ?_
          refine go_e (L1 := [none, none, none, none, none, none, none, none, none, none, none, none, none, none, none, none]) rfl rfl ?_
          refine go_n 1 (f := (70, [none, none, none, none, none, none, none, none, none, none, none, none, none, none, none, none], [.int (-1)], (wi σ 60 0 0))) rfl ?_
          cases hf
          exact go_r rfl
        · rw [if_neg h12] at hf
          refine go_if (t := 69) (f := 41) (L1 := [some (.ref 60), some (.int x1), some (.int x2), some (.int x3), some (.int x4), some (.int x5), some (.int x6), none, none, none, none, none, none, none, none, none]) (st1 := []) (σ1 := (wi σ 60 0 0)) rfl h12 ?_
          refine go_n 4 (f := (47, [some (.ref 60), some (.int x1), some (.int x2), some (.int x3), some (.int x4), some (.int x5), some (.int x6), none, none, none, none, none, none, none, none, none], [.int 40, .int (x4 - x3)], (wi σ 60 0 0))) rfl ?_
          by_cases h13 : 40 ≤ (x4 - x3)
          · rw [if_pos h13] at hf
            refine go_it (t := 69) (f := 50) (L1 := [some (.ref 60), some (.int x1), some (.int x2), some (.int x3), some (.int x4), some (.int x5), some (.int x6), none, none, none, none, none, none, none, none, none]) (st1 := []) (σ1 := (wi σ 60 0 0)) rfl h13 ?_
            refine go_e (L1 := [none, none, none, none, none, none, none, none, none, none, none, none, none, none, none, none]) rfl rfl ?_
            refine go_n 1 (f := (70, [none, none, none, none, none, none, none, none, none, none, none, none, none, none, none, none], [.int (-1)], (wi σ 60 0 0))) rfl ?_
            cases hf
            exact go_r rfl
          · rw [if_neg h13] at hf
            refine go_if (t := 69) (f := 50) (L1 := [some (.ref 60), some (.int x1), some (.int x2), some (.int x3), some (.int x4), some (.int x5), some (.int x6), none, none, none, none, none, none, none, none, none]) (st1 := []) (σ1 := (wi σ 60 0 0)) rfl h13 ?_
            refine go_n 1 (f := (52, [some (.ref 60), some (.int x1), some (.int x2), some (.int x3), some (.int x4), some (.int x5), some (.int x6), none, none, none, none, none, none, none, none, none], [.int x5], (wi σ 60 0 0))) rfl ?_
            obtain ⟨q14, h15, hf⟩ := bnd hf
            refine go_c (mid := 12057) (args := [.int x5]) (pc := 55) (L := [some (.ref 60), some (.int x1), some (.int x2), some (.int x3), some (.int x4), some (.int x5), some (.int x6), none, none, none, none, none, none, none, none, none]) (st := []) (σ := (wi σ 60 0 0)) rfl ((fX7_isKnown_ok _ _ q14 h15).deep (Nat.le_of_ble_eq_true rfl)) ?_
            by_cases h16 : q14 = 0
            · rw [if_pos h16] at hf
              refine go_it (t := 69) (f := 58) (L1 := [some (.ref 60), some (.int x1), some (.int x2), some (.int x3), some (.int x4), some (.int x5), some (.int x6), none, none, none, none, none, none, none, none, none]) (st1 := []) (σ1 := (wi σ 60 0 0)) rfl h16 ?_
              refine go_e (L1 := [none, none, none, none, none, none, none, none, none, none, none, none, none, none, none, none]) rfl rfl ?_
              refine go_n 1 (f := (70, [none, none, none, none, none, none, none, none, none, none, none, none, none, none, none, none], [.int (-1)], (wi σ 60 0 0))) rfl ?_
              cases hf
              exact go_r rfl
            · rw [if_neg h16] at hf
              refine go_if (t := 69) (f := 58) (L1 := [some (.ref 60), some (.int x1), some (.int x2), some (.int x3), some (.int x4), some (.int x5), some (.int x6), none, none, none, none, none, none, none, none, none]) (st1 := []) (σ1 := (wi σ 60 0 0)) rfl h16 ?_
              refine go_n 4 (f := (63, [some (.ref 60), some (.int x1), some (.int x2), some (.int x3), some (.int x4), some (.int x5), some (.int x6), none, none, none, none, none, none, none, none, none], [.long 1, .long 0, .long x6.toInt64], (wi σ 60 0 0))) rfl ?_
              obtain ⟨q17, h18, hf⟩ := bnd hf
              refine go_c (mid := 12034) (args := [.long x6.toInt64, .long 0, .long 1]) (pc := 66) (L := [some (.ref 60), some (.int x1), some (.int x2), some (.int x3), some (.int x4), some (.int x5), some (.int x6), none, none, none, none, none, none, none, none, none]) (st := []) (σ := (wi σ 60 0 0)) rfl ((fX7_in_ok _ _ _ _ q17 h18).deep (Nat.le_of_ble_eq_true rfl)) ?_
              by_cases h19 : q17 ≠ 0
              · rw [if_pos h19] at hf
                refine go_it (t := 71) (f := 69) (L1 := [some (.ref 60), some (.int x1), some (.int x2), some (.int x3), some (.int x4), some (.int x5), some (.int x6), none, none, none, none, none, none, none, none, none]) (st1 := []) (σ1 := (wi σ 60 0 0)) rfl h19 ?_
                refine go_n 2 (f := (74, [some (.ref 60), some (.int x1), some (.int x2), some (.int x3), some (.int x4), some (.int x5), some (.int x6), none, none, none, none, none, none, none, none, none], [.int x5, .ref 60], (wi σ 60 0 0))) rfl ?_
                obtain ⟨q20, h21, hf⟩ := bnd hf
                refine go_c (mid := 12107) (args := [.ref 60, .int x5]) (pc := 77) (L := [some (.ref 60), some (.int x1), some (.int x2), some (.int x3), some (.int x4), some (.int x5), some (.int x6), none, none, none, none, none, none, none, none, none]) (st := []) (σ := (wi σ 60 0 0)) rfl ((fX7_knowBy_ok _ _ q20 h21).deep (Nat.le_of_ble_eq_true rfl)) ?_
                refine go_n 1 (f := (78, [some (.ref 60), some (.int x1), some (.int x2), some (.int x3), some (.int x4), some (.int x5), some (.int x6), none, none, none, none, none, none, none, none, none], [.ref 60], q20)) rfl ?_
                obtain ⟨q22, h23, hf⟩ := bnd hf
                refine go_c (mid := 12141) (args := [.ref 60]) (pc := 81) (L := [some (.ref 60), some (.int x1), some (.int x2), some (.int x3), some (.int x4), some (.int x5), some (.int x6), none, none, none, none, none, none, none, none, none]) (st := []) (σ := q20) rfl ((fX7_noShifts_ok _ q22 h23).deep (Nat.le_of_ble_eq_true rfl)) ?_
                refine go_n 3 (f := (84, [some (.ref 60), some (.int x1), some (.int x2), some (.int x3), some (.int x4), some (.int x5), some (.int x6), none, none, none, none, none, none, none, none, none], [.int x2, .int x1, .ref 60], q22)) rfl ?_
                obtain ⟨q24, h25, hf⟩ := bnd hf
                refine go_c (mid := 12164) (args := [.ref 60, .int x1, .int x2]) (pc := 87) (L := [some (.ref 60), some (.int x1), some (.int x2), some (.int x3), some (.int x4), some (.int x5), some (.int x6), none, none, none, none, none, none, none, none, none]) (st := []) (σ := q22) rfl ((fX7_findWinter_ok _ _ _ q24 h25).deep (Nat.le_of_ble_eq_true rfl)) ?_
                refine go_n 8 (f := (101, [some (.ref 60), some (.int x1), some (.int x2), some (.int x3), some (.int x4), some (.int x5), some (.int x6), some (.long (gi q24 60 74).toInt64), none, some (.long (gi q24 60 75).toInt64), none, none, none, none, none, none], [], q24)) rfl ?_
                refine go_n 6 (f := (111, [some (.ref 60), some (.int x1), some (.int x2), some (.int x3), some (.int x4), some (.int x5), some (.int x6), some (.long (gi q24 60 74).toInt64), none, some (.long (gi q24 60 75).toInt64), none, some (.long (gi q24 60 76).toInt64), none, some (.int 0), none, none], [], q24)) rfl ?_
                refine go_n 2 (f := (114, [some (.ref 60), some (.int x1), some (.int x2), some (.int x3), some (.int x4), some (.int x5), some (.int x6), some (.long (gi q24 60 74).toInt64), none, some (.long (gi q24 60 75).toInt64), none, some (.long (gi q24 60 76).toInt64), none, some (.int 0), some (.int x3), none], [], q24)) rfl ?_
                refine go_e (L1 := [some (.ref 60), some (.int x1), some (.int x2), none, some (.int x4), none, some (.int x6), some (.long (gi q24 60 74).toInt64), none, some (.long (gi q24 60 75).toInt64), none, some (.long (gi q24 60 76).toInt64), none, some (.int 0), some (.int x3), none]) rfl rfl ?_
                exact fX7_rank_L114_ok _ _ _ _ _ _ _   N0 _ _ _ _ hf
              · rw [if_neg h19] at hf
                refine go_if (t := 71) (f := 69) (L1 := [some (.ref 60), some (.int x1), some (.int x2), some (.int x3), some (.int x4), some (.int x5), some (.int x6), none, none, none, none, none, none, none, none, none]) (st1 := []) (σ1 := (wi σ 60 0 0)) rfl h19 ?_
                refine go_e (L1 := [none, none, none, none, none, none, none, none, none, none, none, none, none, none, none, none]) rfl rfl ?_
                refine go_n 1 (f := (70, [none, none, none, none, none, none, none, none, none, none, none, none, none, none, none, none], [.int (-1)], (wi σ 60 0 0))) rfl ?_
                cases hf
                exact go_r rfl
/-! OldWeatherModel.best(I)I -/
def fX7_best_L234 (x2 : Int32)  (rec234 : (Int32 × Sg) → Option (Int32 × Sg)) (s : Int32 × Sg) : Option (Int32 × Sg) :=
  match s with
  | (x4, σ) => if (gi σ 60 61) ≤ x4 then some (x2, σ) else if inb x4 5 then if inb x4 5 then rec234 ((x4 + 1), (wi σ 84 x4.toNatClampNeg (gi σ 83 x4.toNatClampNeg))) else none else none
set_option maxHeartbeats 1500000 in
theorem fX7_best_L234_ok (x2 : Int32)   : ∀ (n : Nat) (x4 : Int32) (σ : Sg) (r : (Int32 × Sg)), lp (fX7_best_L234 x2 ) n (x4, σ) = some r → Go true 13 iX7_best (234, [some (.ref 60), none, some (.int x2), none, some (.int x4), none, none, none, none], [], σ) (.inl (some (.int (r).1)), (r).2) := by
  intro n
  induction n with
  | zero => intro x4 σ r hf; cases hf
  | succ n ih =>
    intro x4 σ r hf
    have hf : fX7_best_L234 x2  (lp (fX7_best_L234 x2 ) n) (x4, σ) = some r := hf
    have hrec234 := ih
    generalize lp (fX7_best_L234 x2 ) n = rec234 at hf hrec234
    unfold fX7_best_L234 at hf
    dsimp only at hf
    refine go_n 3 (f := (240, [some (.ref 60), none, some (.int x2), none, some (.int x4), none, none, none, none], [.int (gi σ 60 61), .int x4], σ)) rfl ?_
    by_cases h11 : (gi σ 60 61) ≤ x4
    · rw [if_pos h11] at hf
      refine go_it (t := 263) (f := 243) (L1 := [some (.ref 60), none, some (.int x2), none, some (.int x4), none, none, none, none]) (st1 := []) (σ1 := σ) rfl h11 ?_
      refine go_n 1 (f := (264, [some (.ref 60), none, some (.int x2), none, some (.int x4), none, none, none, none], [.int x2], σ)) rfl ?_
      cases hf
      exact go_r rfl
    · rw [if_neg h11] at hf
      refine go_if (t := 263) (f := 243) (L1 := [some (.ref 60), none, some (.int x2), none, some (.int x4), none, none, none, none]) (st1 := []) (σ1 := σ) rfl h11 ?_
      refine go_n 6 (f := (255, [some (.ref 60), none, some (.int x2), none, some (.int x4), none, none, none, none], [.int x4, .ref 83, .int x4, .ref 84], σ)) rfl ?_
      obtain ⟨h12, hf⟩ := grd hf
      refine go_iald rfl rfl rfl h12 ?_
      obtain ⟨h13, hf⟩ := grd hf
      refine go_iast rfl rfl rfl h13 ?_
      refine go_n 2 (f := (234, [some (.ref 60), none, some (.int x2), none, some (.int (x4 + 1)), none, none, none, none], [], (wi σ 84 x4.toNatClampNeg (gi σ 83 x4.toNatClampNeg)))) rfl ?_
      exact hrec234 _ _ _ hf
def fX7_best_J212 (x2 : Int32) (x3 : Int32) (x4 : Int32) (rec35 : (Int32 × Int32 × Int32 × Sg) → Option (Int32 × Sg)) (σ : Sg) : Option (Int32 × Sg) :=
  rec35 (x2, x3, (x4 + 1), σ)
set_option maxHeartbeats 1500000 in
theorem fX7_best_J212_ok (x2 : Int32) (x3 : Int32) (x4 : Int32) (rec35 : (Int32 × Int32 × Int32 × Sg) → Option (Int32 × Sg)) (σ : Sg) (hrec35 : ∀ (y2 : Int32) (y3 : Int32) (y4 : Int32) (τ : Sg) (r : (Int32 × Sg)), rec35 (y2, y3, y4, τ) = some r → Go true 13 iX7_best (35, [some (.ref 60), none, some (.int y2), some (.int y3), some (.int y4), none, none, none, none], [], τ) (.inl (some (.int (r).1)), (r).2)) (r : (Int32 × Sg)) (hf : fX7_best_J212 x2 x3 x4 rec35 σ = some r) : Go true 13 iX7_best (212, [some (.ref 60), none, some (.int x2), some (.int x3), some (.int x4), none, none, none, none], [], σ) (.inl (some (.int (r).1)), (r).2) := by
  unfold fX7_best_J212 at hf
  refine go_n 2 (f := (35, [some (.ref 60), none, some (.int x2), some (.int x3), some (.int (x4 + 1)), none, none, none, none], [], σ)) rfl ?_
  exact hrec35 _ _ _ _ _ hf
def fX7_best_L183 (x2 : Int32) (x3 : Int32) (x4 : Int32) (rec35 : (Int32 × Int32 × Int32 × Sg) → Option (Int32 × Sg)) (rec183 : (Int32 × Sg) → Option (Int32 × Sg)) (s : Int32 × Sg) : Option (Int32 × Sg) :=
  match s with
  | (x8, σ) => if (gi σ 60 61) ≤ x8 then fX7_best_J212 x2 x3 x4 rec35 σ else if inb x8 5 then if inb x8 5 then rec183 ((x8 + 1), (wi σ 85 x8.toNatClampNeg (gi σ 91 x8.toNatClampNeg))) else none else none
set_option maxHeartbeats 1500000 in
theorem fX7_best_L183_ok (x2 : Int32) (x3 : Int32) (x4 : Int32) (rec35 : (Int32 × Int32 × Int32 × Sg) → Option (Int32 × Sg)) (hrec35 : ∀ (y2 : Int32) (y3 : Int32) (y4 : Int32) (τ : Sg) (r : (Int32 × Sg)), rec35 (y2, y3, y4, τ) = some r → Go true 13 iX7_best (35, [some (.ref 60), none, some (.int y2), some (.int y3), some (.int y4), none, none, none, none], [], τ) (.inl (some (.int (r).1)), (r).2)) : ∀ (n : Nat) (x8 : Int32) (σ : Sg) (r : (Int32 × Sg)), lp (fX7_best_L183 x2 x3 x4 rec35) n (x8, σ) = some r → Go true 13 iX7_best (183, [some (.ref 60), none, some (.int x2), some (.int x3), some (.int x4), none, none, none, some (.int x8)], [], σ) (.inl (some (.int (r).1)), (r).2) := by
  intro n
  induction n with
  | zero => intro x8 σ r hf; cases hf
  | succ n ih =>
    intro x8 σ r hf
    have hf : fX7_best_L183 x2 x3 x4 rec35 (lp (fX7_best_L183 x2 x3 x4 rec35) n) (x8, σ) = some r := hf
    have hrec183 := ih
    generalize lp (fX7_best_L183 x2 x3 x4 rec35) n = rec183 at hf hrec183
    unfold fX7_best_L183 at hf
    dsimp only at hf
    refine go_n 3 (f := (189, [some (.ref 60), none, some (.int x2), some (.int x3), some (.int x4), none, none, none, some (.int x8)], [.int (gi σ 60 61), .int x8], σ)) rfl ?_
    by_cases h22 : (gi σ 60 61) ≤ x8
    · rw [if_pos h22] at hf
      refine go_it (t := 212) (f := 192) (L1 := [some (.ref 60), none, some (.int x2), some (.int x3), some (.int x4), none, none, none, some (.int x8)]) (st1 := []) (σ1 := σ) rfl h22 ?_
      refine go_e (L1 := [some (.ref 60), none, some (.int x2), some (.int x3), some (.int x4), none, none, none, none]) rfl rfl ?_
      exact fX7_best_J212_ok _ _ _ _ _ hrec35 _ hf
    · rw [if_neg h22] at hf
      refine go_if (t := 212) (f := 192) (L1 := [some (.ref 60), none, some (.int x2), some (.int x3), some (.int x4), none, none, none, some (.int x8)]) (st1 := []) (σ1 := σ) rfl h22 ?_
      refine go_n 6 (f := (204, [some (.ref 60), none, some (.int x2), some (.int x3), some (.int x4), none, none, none, some (.int x8)], [.int x8, .ref 91, .int x8, .ref 85], σ)) rfl ?_
      obtain ⟨h23, hf⟩ := grd hf
      refine go_iald rfl rfl rfl h23 ?_
      obtain ⟨h24, hf⟩ := grd hf
      refine go_iast rfl rfl rfl h24 ?_
      refine go_n 2 (f := (183, [some (.ref 60), none, some (.int x2), some (.int x3), some (.int x4), none, none, none, some (.int (x8 + 1))], [], (wi σ 85 x8.toNatClampNeg (gi σ 91 x8.toNatClampNeg)))) rfl ?_
      exact hrec183 _ _ _ hf
def fX7_best_J174 (x4 : Int32) (x6 : Int32) (x7 : Int32) (rec35 : (Int32 × Int32 × Int32 × Sg) → Option (Int32 × Sg)) (σ : Sg) : Option (Int32 × Sg) :=
  lp (fX7_best_L183 x7 x6 x4 rec35) N0 (0, σ)
set_option maxHeartbeats 1500000 in
theorem fX7_best_J174_ok (x4 : Int32) (x6 : Int32) (x7 : Int32) (rec35 : (Int32 × Int32 × Int32 × Sg) → Option (Int32 × Sg)) (σ : Sg) (hrec35 : ∀ (y2 : Int32) (y3 : Int32) (y4 : Int32) (τ : Sg) (r : (Int32 × Sg)), rec35 (y2, y3, y4, τ) = some r → Go true 13 iX7_best (35, [some (.ref 60), none, some (.int y2), some (.int y3), some (.int y4), none, none, none, none], [], τ) (.inl (some (.int (r).1)), (r).2)) (r : (Int32 × Sg)) (hf : fX7_best_J174 x4 x6 x7 rec35 σ = some r) : Go true 13 iX7_best (174, [some (.ref 60), none, none, none, some (.int x4), none, some (.int x6), some (.int x7), none], [], σ) (.inl (some (.int (r).1)), (r).2) := by
  unfold fX7_best_J174 at hf
  refine go_n 4 (f := (180, [some (.ref 60), none, some (.int x7), some (.int x6), some (.int x4), none, some (.int x6), some (.int x7), none], [], σ)) rfl ?_
  refine go_n 2 (f := (183, [some (.ref 60), none, some (.int x7), some (.int x6), some (.int x4), none, some (.int x6), some (.int x7), some (.int 0)], [], σ)) rfl ?_
  refine go_e (L1 := [some (.ref 60), none, some (.int x7), some (.int x6), some (.int x4), none, none, none, some (.int 0)]) rfl rfl ?_
  exact fX7_best_L183_ok _ _ _ _ hrec35 N0 _ _ _ hf
def fX7_best_L59 (x2 : Int32) (x3 : Int32) (x4 : Int32) (rec35 : (Int32 × Int32 × Int32 × Sg) → Option (Int32 × Sg)) (rec59 : (Int32 × Int32 × Int32 × Sg) → Option (Int32 × Sg)) (s : Int32 × Int32 × Int32 × Sg) : Option (Int32 × Sg) :=
  match s with
  | (x5, x6, x7, σ) => if x7 < 0 then (fX7_quarrels  σ).bind fun q15 => ((fun (z20 : Int32) => if x2 < 0 then fX7_best_J174 x4 x6 q15 rec35 (wi σ 60 67 z20) else if q15 < x2 then fX7_best_J174 x4 x6 q15 rec35 (wi σ 60 67 z20) else if q15 ≠ x2 then fX7_best_J212 x2 x3 x4 rec35 (wi σ 60 67 z20) else if x3 ≤ x6 then fX7_best_J212 x2 x3 x4 rec35 (wi σ 60 67 z20) else fX7_best_J174 x4 x6 q15 rec35 (wi σ 60 67 z20)) (if q15 ≠ x2 then (if x2 < 0 then 1 else (if x2 ≤ q15 then (gi σ 60 67) else 1)) else ((gi σ 60 67) + 1))) else if inb x7 5 then if inb x7 5 then ((fun (z32 : Int32) => rec59 ((x5 / 9), (x6 + z32), (x7 + (-1)), (wi σ 91 x7.toNatClampNeg (x5 - x5 / 9 * 9)))) ((if (gi (wi σ 91 x7.toNatClampNeg (x5 - x5 / 9 * 9)) 91 x7.toNatClampNeg) ≤ 0 then 0 else 1) : Int32)) else none else none
set_option maxHeartbeats 1500000 in
theorem fX7_best_L59_ok (x2 : Int32) (x3 : Int32) (x4 : Int32) (rec35 : (Int32 × Int32 × Int32 × Sg) → Option (Int32 × Sg)) (hrec35 : ∀ (y2 : Int32) (y3 : Int32) (y4 : Int32) (τ : Sg) (r : (Int32 × Sg)), rec35 (y2, y3, y4, τ) = some r → Go true 13 iX7_best (35, [some (.ref 60), none, some (.int y2), some (.int y3), some (.int y4), none, none, none, none], [], τ) (.inl (some (.int (r).1)), (r).2)) : ∀ (n : Nat) (x5 : Int32) (x6 : Int32) (x7 : Int32) (σ : Sg) (r : (Int32 × Sg)), lp (fX7_best_L59 x2 x3 x4 rec35) n (x5, x6, x7, σ) = some r → Go true 13 iX7_best (59, [some (.ref 60), none, some (.int x2), some (.int x3), some (.int x4), some (.int x5), some (.int x6), some (.int x7), none], [], σ) (.inl (some (.int (r).1)), (r).2) := by
  intro n
  induction n with
  | zero => intro x5 x6 x7 σ r hf; cases hf
  | succ n ih =>
    intro x5 x6 x7 σ r hf
    have hf : fX7_best_L59 x2 x3 x4 rec35 (lp (fX7_best_L59 x2 x3 x4 rec35) n) (x5, x6, x7, σ) = some r := hf
    have hrec59 := ih
    generalize lp (fX7_best_L59 x2 x3 x4 rec35) n = rec59 at hf hrec59
    unfold fX7_best_L59 at hf
    dsimp only at hf
    refine go_n 1 (f := (61, [some (.ref 60), none, some (.int x2), some (.int x3), some (.int x4), some (.int x5), some (.int x6), some (.int x7), none], [.int x7], σ)) rfl ?_
    by_cases h14 : x7 < 0
    · rw [if_pos h14] at hf
      refine go_it (t := 109) (f := 64) (L1 := [some (.ref 60), none, some (.int x2), some (.int x3), some (.int x4), some (.int x5), some (.int x6), some (.int x7), none]) (st1 := []) (σ1 := σ) rfl h14 ?_
      refine go_n 1 (f := (110, [some (.ref 60), none, some (.int x2), some (.int x3), some (.int x4), some (.int x5), some (.int x6), some (.int x7), none], [.ref 60], σ)) rfl ?_
      obtain ⟨q15, h16, hf⟩ := bnd hf
      refine go_c (mid := 12158) (args := [.ref 60]) (pc := 113) (L := [some (.ref 60), none, some (.int x2), some (.int x3), some (.int x4), some (.int x5), some (.int x6), some (.int x7), none]) (st := []) (σ := σ) rfl ((fX7_quarrels_ok _ q15 h16).deep (Nat.le_of_ble_eq_true rfl)) ?_
      refine go_n 4 (f := (119, [some (.ref 60), none, some (.int x2), some (.int x3), some (.int x4), some (.int x5), some (.int x6), some (.int q15), none], [.int x2, .int q15, .ref 60], σ)) rfl ?_
      refine go_m (f := (149, [some (.ref 60), none, some (.int x2), some (.int x3), some (.int x4), none, some (.int x6), some (.int q15), none], [.int (if q15 ≠ x2 then (if x2 < 0 then 1 else (if x2 ≤ q15 then (gi σ 60 67) else 1)) else ((gi σ 60 67) + 1)), .ref 60], σ)) ?_ (fun hJ28 => ?_)
      · generalize hz20 : (if q15 ≠ x2 then (if x2 < 0 then 1 else (if x2 ≤ q15 then (gi σ 60 67) else 1)) else ((gi σ 60 67) + 1)) = z20 at hf ⊢
        try dsimp only at hf
        refine go_n 2 (f := (153, [some (.ref 60), none, some (.int x2), some (.int x3), some (.int x4), none, some (.int x6), some (.int q15), none], [.int x2], (wi σ 60 67 z20))) rfl ?_
        by_cases h21 : x2 < 0
        · rw [if_pos h21] at hf
          refine go_it (t := 174) (f := 156) (L1 := [some (.ref 60), none, some (.int x2), some (.int x3), some (.int x4), none, some (.int x6), some (.int q15), none]) (st1 := []) (σ1 := (wi σ 60 67 z20)) rfl h21 ?_
          refine go_e (L1 := [some (.ref 60), none, none, none, some (.int x4), none, some (.int x6), some (.int q15), none]) rfl rfl ?_
          exact fX7_best_J174_ok _ _ _ _ _ hrec35 _ hf
        · rw [if_neg h21] at hf
          refine go_if (t := 174) (f := 156) (L1 := [some (.ref 60), none, some (.int x2), some (.int x3), some (.int x4), none, some (.int x6), some (.int q15), none]) (st1 := []) (σ1 := (wi σ 60 67 z20)) rfl h21 ?_
          refine go_n 2 (f := (159, [some (.ref 60), none, some (.int x2), some (.int x3), some (.int x4), none, some (.int x6), some (.int q15), none], [.int x2, .int q15], (wi σ 60 67 z20))) rfl ?_
          by_cases h25 : q15 < x2
          · rw [if_pos h25] at hf
            refine go_it (t := 174) (f := 162) (L1 := [some (.ref 60), none, some (.int x2), some (.int x3), some (.int x4), none, some (.int x6), some (.int q15), none]) (st1 := []) (σ1 := (wi σ 60 67 z20)) rfl h25 ?_
            refine go_e (L1 := [some (.ref 60), none, none, none, some (.int x4), none, some (.int x6), some (.int q15), none]) rfl rfl ?_
            exact fX7_best_J174_ok _ _ _ _ _ hrec35 _ hf
          · rw [if_neg h25] at hf
            refine go_if (t := 174) (f := 162) (L1 := [some (.ref 60), none, some (.int x2), some (.int x3), some (.int x4), none, some (.int x6), some (.int q15), none]) (st1 := []) (σ1 := (wi σ 60 67 z20)) rfl h25 ?_
            refine go_n 2 (f := (165, [some (.ref 60), none, some (.int x2), some (.int x3), some (.int x4), none, some (.int x6), some (.int q15), none], [.int x2, .int q15], (wi σ 60 67 z20))) rfl ?_
            by_cases h26 : q15 ≠ x2
            · rw [if_pos h26] at hf
              refine go_it (t := 212) (f := 168) (L1 := [some (.ref 60), none, some (.int x2), some (.int x3), some (.int x4), none, some (.int x6), some (.int q15), none]) (st1 := []) (σ1 := (wi σ 60 67 z20)) rfl h26 ?_
              refine go_e (L1 := [some (.ref 60), none, some (.int x2), some (.int x3), some (.int x4), none, none, none, none]) rfl rfl ?_
              exact fX7_best_J212_ok _ _ _ _ _ hrec35 _ hf
            · rw [if_neg h26] at hf
              refine go_if (t := 212) (f := 168) (L1 := [some (.ref 60), none, some (.int x2), some (.int x3), some (.int x4), none, some (.int x6), some (.int q15), none]) (st1 := []) (σ1 := (wi σ 60 67 z20)) rfl h26 ?_
              refine go_n 2 (f := (171, [some (.ref 60), none, some (.int x2), some (.int x3), some (.int x4), none, some (.int x6), some (.int q15), none], [.int x3, .int x6], (wi σ 60 67 z20))) rfl ?_
              by_cases h27 : x3 ≤ x6
              · rw [if_pos h27] at hf
                refine go_it (t := 212) (f := 174) (L1 := [some (.ref 60), none, some (.int x2), some (.int x3), some (.int x4), none, some (.int x6), some (.int q15), none]) (st1 := []) (σ1 := (wi σ 60 67 z20)) rfl h27 ?_
                refine go_e (L1 := [some (.ref 60), none, some (.int x2), some (.int x3), some (.int x4), none, none, none, none]) rfl rfl ?_
                exact fX7_best_J212_ok _ _ _ _ _ hrec35 _ hf
              · rw [if_neg h27] at hf
                refine go_if (t := 212) (f := 174) (L1 := [some (.ref 60), none, some (.int x2), some (.int x3), some (.int x4), none, some (.int x6), some (.int q15), none]) (st1 := []) (σ1 := (wi σ 60 67 z20)) rfl h27 ?_
                refine go_e (L1 := [some (.ref 60), none, none, none, some (.int x4), none, some (.int x6), some (.int q15), none]) rfl rfl ?_
                exact fX7_best_J174_ok _ _ _ _ _ hrec35 _ hf
      · by_cases h17 : q15 ≠ x2
        · refine go_it (t := 131) (f := 122) (L1 := [some (.ref 60), none, some (.int x2), some (.int x3), some (.int x4), some (.int x5), some (.int x6), some (.int q15), none]) (st1 := [.ref 60]) (σ1 := σ) rfl h17 ?_
          refine go_n 1 (f := (132, [some (.ref 60), none, some (.int x2), some (.int x3), some (.int x4), some (.int x5), some (.int x6), some (.int q15), none], [.int x2, .ref 60], σ)) rfl ?_
          by_cases h18 : x2 < 0
          · refine go_it (t := 141) (f := 135) (L1 := [some (.ref 60), none, some (.int x2), some (.int x3), some (.int x4), some (.int x5), some (.int x6), some (.int q15), none]) (st1 := [.ref 60]) (σ1 := σ) rfl h18 ?_
            refine go_e (L1 := [some (.ref 60), none, some (.int x2), some (.int x3), some (.int x4), none, some (.int x6), some (.int q15), none]) rfl rfl ?_
            refine go_n 2 (f := (149, [some (.ref 60), none, some (.int x2), some (.int x3), some (.int x4), none, some (.int x6), some (.int q15), none], [.int 1, .ref 60], σ)) rfl ?_
            refine go_e (L1 := [some (.ref 60), none, some (.int x2), some (.int x3), some (.int x4), none, some (.int x6), some (.int q15), none]) rfl rfl ?_
            simp only [if_pos h17, if_pos h18] at hJ28
            first | exact hJ28 | (simp only [if_pos h17, if_pos h18]; exact hJ28)
          · refine go_if (t := 141) (f := 135) (L1 := [some (.ref 60), none, some (.int x2), some (.int x3), some (.int x4), some (.int x5), some (.int x6), some (.int q15), none]) (st1 := [.ref 60]) (σ1 := σ) rfl h18 ?_
            refine go_n 2 (f := (138, [some (.ref 60), none, some (.int x2), some (.int x3), some (.int x4), some (.int x5), some (.int x6), some (.int q15), none], [.int x2, .int q15, .ref 60], σ)) rfl ?_
            by_cases h19 : x2 ≤ q15
            · refine go_it (t := 145) (f := 141) (L1 := [some (.ref 60), none, some (.int x2), some (.int x3), some (.int x4), some (.int x5), some (.int x6), some (.int q15), none]) (st1 := [.ref 60]) (σ1 := σ) rfl h19 ?_
              refine go_n 2 (f := (149, [some (.ref 60), none, some (.int x2), some (.int x3), some (.int x4), some (.int x5), some (.int x6), some (.int q15), none], [.int (gi σ 60 67), .ref 60], σ)) rfl ?_
              refine go_e (L1 := [some (.ref 60), none, some (.int x2), some (.int x3), some (.int x4), none, some (.int x6), some (.int q15), none]) rfl rfl ?_
              simp only [if_pos h17, if_neg h18, if_pos h19] at hJ28
              first | exact hJ28 | (simp only [if_pos h17, if_neg h18, if_pos h19]; exact hJ28)
            · refine go_if (t := 145) (f := 141) (L1 := [some (.ref 60), none, some (.int x2), some (.int x3), some (.int x4), some (.int x5), some (.int x6), some (.int q15), none]) (st1 := [.ref 60]) (σ1 := σ) rfl h19 ?_
              refine go_e (L1 := [some (.ref 60), none, some (.int x2), some (.int x3), some (.int x4), none, some (.int x6), some (.int q15), none]) rfl rfl ?_
              refine go_n 2 (f := (149, [some (.ref 60), none, some (.int x2), some (.int x3), some (.int x4), none, some (.int x6), some (.int q15), none], [.int 1, .ref 60], σ)) rfl ?_
              refine go_e (L1 := [some (.ref 60), none, some (.int x2), some (.int x3), some (.int x4), none, some (.int x6), some (.int q15), none]) rfl rfl ?_
              simp only [if_pos h17, if_neg h18, if_neg h19] at hJ28
              first | exact hJ28 | (simp only [if_pos h17, if_neg h18, if_neg h19]; exact hJ28)
        · refine go_if (t := 131) (f := 122) (L1 := [some (.ref 60), none, some (.int x2), some (.int x3), some (.int x4), some (.int x5), some (.int x6), some (.int q15), none]) (st1 := [.ref 60]) (σ1 := σ) rfl h17 ?_
          refine go_n 5 (f := (149, [some (.ref 60), none, some (.int x2), some (.int x3), some (.int x4), some (.int x5), some (.int x6), some (.int q15), none], [.int ((gi σ 60 67) + 1), .ref 60], σ)) rfl ?_
          refine go_e (L1 := [some (.ref 60), none, some (.int x2), some (.int x3), some (.int x4), none, some (.int x6), some (.int q15), none]) rfl rfl ?_
          simp only [if_neg h17] at hJ28
          first | exact hJ28 | (simp only [if_neg h17]; exact hJ28)
    · rw [if_neg h14] at hf
      refine go_if (t := 109) (f := 64) (L1 := [some (.ref 60), none, some (.int x2), some (.int x3), some (.int x4), some (.int x5), some (.int x6), some (.int x7), none]) (st1 := []) (σ1 := σ) rfl h14 ?_
      refine go_n 5 (f := (74, [some (.ref 60), none, some (.int x2), some (.int x3), some (.int x4), some (.int x5), some (.int x6), some (.int x7), none], [.int 9, .int x5, .int x7, .ref 91], σ)) rfl ?_
      refine go_irem rfl rfl (by decide) ?_
      obtain ⟨h29, hf⟩ := grd hf
      refine go_iast rfl rfl rfl h29 ?_
      refine go_n 2 (f := (80, [some (.ref 60), none, some (.int x2), some (.int x3), some (.int x4), some (.int x5), some (.int x6), some (.int x7), none], [.int 9, .int x5], (wi σ 91 x7.toNatClampNeg (x5 - x5 / 9 * 9)))) rfl ?_
      refine go_idiv rfl rfl (by decide) ?_
      refine go_n 5 (f := (91, [some (.ref 60), none, some (.int x2), some (.int x3), some (.int x4), some (.int (x5 / 9)), some (.int x6), some (.int x7), none], [.int x7, .ref 91, .int x6], (wi σ 91 x7.toNatClampNeg (x5 - x5 / 9 * 9)))) rfl ?_
      obtain ⟨h30, hf⟩ := grd hf
      refine go_iald rfl rfl rfl h30 ?_
      refine go_m (f := (100, [some (.ref 60), none, some (.int x2), some (.int x3), some (.int x4), some (.int (x5 / 9)), none, some (.int x7), none], [.int ((if (gi (wi σ 91 x7.toNatClampNeg (x5 - x5 / 9 * 9)) 91 x7.toNatClampNeg) ≤ 0 then 0 else 1) : Int32), .int x6], (wi σ 91 x7.toNatClampNeg (x5 - x5 / 9 * 9)))) ?_ (fun hJ33 => ?_)
      · generalize hz32 : ((if (gi (wi σ 91 x7.toNatClampNeg (x5 - x5 / 9 * 9)) 91 x7.toNatClampNeg) ≤ 0 then 0 else 1) : Int32) = z32 at hf ⊢
        have oz32 : am_ok 3 z32 = true := hz32 ▸ (okb rfl rfl)
        try dsimp only at hf
        refine go_n 3 (f := (106, [some (.ref 60), none, some (.int x2), some (.int x3), some (.int x4), some (.int (x5 / 9)), some (.int (x6 + z32)), some (.int (x7 + (-1))), none], [], (wi σ 91 x7.toNatClampNeg (x5 - x5 / 9 * 9)))) rfl ?_
        refine go_n 1 (f := (59, [some (.ref 60), none, some (.int x2), some (.int x3), some (.int x4), some (.int (x5 / 9)), some (.int (x6 + z32)), some (.int (x7 + (-1))), none], [], (wi σ 91 x7.toNatClampNeg (x5 - x5 / 9 * 9)))) rfl ?_
        exact hrec59 _ _ _ _ _ hf
      · by_cases h31 : (gi (wi σ 91 x7.toNatClampNeg (x5 - x5 / 9 * 9)) 91 x7.toNatClampNeg) ≤ 0
        · refine go_it (t := 99) (f := 95) (L1 := [some (.ref 60), none, some (.int x2), some (.int x3), some (.int x4), some (.int (x5 / 9)), some (.int x6), some (.int x7), none]) (st1 := [.int x6]) (σ1 := (wi σ 91 x7.toNatClampNeg (x5 - x5 / 9 * 9))) rfl h31 ?_
          refine go_n 1 (f := (100, [some (.ref 60), none, some (.int x2), some (.int x3), some (.int x4), some (.int (x5 / 9)), some (.int x6), some (.int x7), none], [.int 0, .int x6], (wi σ 91 x7.toNatClampNeg (x5 - x5 / 9 * 9)))) rfl ?_
          refine go_e (L1 := [some (.ref 60), none, some (.int x2), some (.int x3), some (.int x4), some (.int (x5 / 9)), none, some (.int x7), none]) rfl rfl ?_
          simp only [if_pos h31] at hJ33
          first | exact hJ33 | (simp only [if_pos h31]; exact hJ33)
        · refine go_if (t := 99) (f := 95) (L1 := [some (.ref 60), none, some (.int x2), some (.int x3), some (.int x4), some (.int (x5 / 9)), some (.int x6), some (.int x7), none]) (st1 := [.int x6]) (σ1 := (wi σ 91 x7.toNatClampNeg (x5 - x5 / 9 * 9))) rfl h31 ?_
          refine go_n 2 (f := (100, [some (.ref 60), none, some (.int x2), some (.int x3), some (.int x4), some (.int (x5 / 9)), some (.int x6), some (.int x7), none], [.int 1, .int x6], (wi σ 91 x7.toNatClampNeg (x5 - x5 / 9 * 9)))) rfl ?_
          refine go_e (L1 := [some (.ref 60), none, some (.int x2), some (.int x3), some (.int x4), some (.int (x5 / 9)), none, some (.int x7), none]) rfl rfl ?_
          simp only [if_neg h31] at hJ33
          first | exact hJ33 | (simp only [if_neg h31]; exact hJ33)
def fX7_best_L35   (rec35 : (Int32 × Int32 × Int32 × Sg) → Option (Int32 × Sg)) (s : Int32 × Int32 × Int32 × Sg) : Option (Int32 × Sg) :=
  match s with
  | (x2, x3, x4, σ) => (fX7_rowsOf  σ).bind fun q8 => if q8 ≤ x4 then lp (fX7_best_L234 x2 ) N0 (0, (wi (wi σ 60 63 1) 60 64 (gi σ 60 61))) else lp (fX7_best_L59 x2 x3 x4 rec35) N0 (x4, 0, ((gi σ 60 61) - 1), σ)
set_option maxHeartbeats 1500000 in
theorem fX7_best_L35_ok    : ∀ (n : Nat) (x2 : Int32) (x3 : Int32) (x4 : Int32) (σ : Sg) (r : (Int32 × Sg)), lp (fX7_best_L35  ) n (x2, x3, x4, σ) = some r → Go true 13 iX7_best (35, [some (.ref 60), none, some (.int x2), some (.int x3), some (.int x4), none, none, none, none], [], σ) (.inl (some (.int (r).1)), (r).2) := by
  intro n
  induction n with
  | zero => intro x2 x3 x4 σ r hf; cases hf
  | succ n ih =>
    intro x2 x3 x4 σ r hf
    have hf : fX7_best_L35   (lp (fX7_best_L35  ) n) (x2, x3, x4, σ) = some r := hf
    have hrec35 := ih
    generalize lp (fX7_best_L35  ) n = rec35 at hf hrec35
    unfold fX7_best_L35 at hf
    dsimp only at hf
    refine go_n 2 (f := (38, [some (.ref 60), none, some (.int x2), some (.int x3), some (.int x4), none, none, none, none], [.ref 60, .int x4], σ)) rfl ?_
    obtain ⟨q8, h9, hf⟩ := bnd hf
    refine go_c (mid := 12157) (args := [.ref 60]) (pc := 41) (L := [some (.ref 60), none, some (.int x2), some (.int x3), some (.int x4), none, none, none, none]) (st := [.int x4]) (σ := σ) rfl ((fX7_rowsOf_ok _ q8 h9).deep (Nat.le_of_ble_eq_true rfl)) ?_
    by_cases h10 : q8 ≤ x4
    · rw [if_pos h10] at hf
      refine go_it (t := 218) (f := 44) (L1 := [some (.ref 60), none, some (.int x2), some (.int x3), some (.int x4), none, none, none, none]) (st1 := []) (σ1 := σ) rfl h10 ?_
      refine go_n 7 (f := (231, [some (.ref 60), none, some (.int x2), some (.int x3), some (.int x4), none, none, none, none], [], (wi (wi σ 60 63 1) 60 64 (gi σ 60 61)))) rfl ?_
      refine go_n 2 (f := (234, [some (.ref 60), none, some (.int x2), some (.int x3), some (.int 0), none, none, none, none], [], (wi (wi σ 60 63 1) 60 64 (gi σ 60 61)))) rfl ?_
      refine go_e (L1 := [some (.ref 60), none, some (.int x2), none, some (.int 0), none, none, none, none]) rfl rfl ?_
      exact fX7_best_L234_ok _   N0 _ _ _ hf
    · rw [if_neg h10] at hf
      refine go_if (t := 218) (f := 44) (L1 := [some (.ref 60), none, some (.int x2), some (.int x3), some (.int x4), none, none, none, none]) (st1 := []) (σ1 := σ) rfl h10 ?_
      refine go_n 4 (f := (51, [some (.ref 60), none, some (.int x2), some (.int x3), some (.int x4), some (.int x4), some (.int 0), none, none], [], σ)) rfl ?_
      refine go_n 5 (f := (59, [some (.ref 60), none, some (.int x2), some (.int x3), some (.int x4), some (.int x4), some (.int 0), some (.int ((gi σ 60 61) - 1)), none], [], σ)) rfl ?_
      exact fX7_best_L59_ok _ _ _ _ hrec35 N0 _ _ _ _ _ hf
def fX7_best (x1 : Int32) (σ : Sg) : Option (Int32 × Sg) :=
  (fX7_isKnown x1).bind fun q1 => if q1 ≠ 0 then (fX7_knowBy x1 (wi σ 60 0 0)).bind fun q4 => (fX7_countClashes  q4).bind fun q6 => lp (fX7_best_L35  ) N0 ((-1), 0, 0, (wi q6 60 67 0)) else some ((-1), (wi σ 60 0 0))
set_option maxHeartbeats 1500000 in
theorem fX7_best_ok (x1 : Int32) (σ : Sg) (r : (Int32 × Sg)) (hf : fX7_best x1 σ = some r) : Cl true 13 12151 [.ref 60, .int x1] σ (.inl (some (.int (r).1)), (r).2) := by
  refine ⟨iX7_best, rfl, Nat.le_of_ble_eq_true rfl, Nat.le_of_ble_eq_true rfl, ?_⟩
  show Go true 13 iX7_best (0, [some (.ref 60), some (.int x1), none, none, none, none, none, none, none], [], σ) (.inl (some (.int (r).1)), (r).2)
  unfold fX7_best at hf
  refine go_n 4 (f := (6, [some (.ref 60), some (.int x1), none, none, none, none, none, none, none], [.int x1], (wi σ 60 0 0))) rfl ?_
  obtain ⟨q1, h2, hf⟩ := bnd hf
  refine go_c (mid := 12057) (args := [.int x1]) (pc := 9) (L := [some (.ref 60), some (.int x1), none, none, none, none, none, none, none]) (st := []) (σ := (wi σ 60 0 0)) rfl ((fX7_isKnown_ok _ _ q1 h2).deep (Nat.le_of_ble_eq_true rfl)) ?_
  by_cases h3 : q1 ≠ 0
  · rw [if_pos h3] at hf
    refine go_it (t := 14) (f := 12) (L1 := [some (.ref 60), some (.int x1), none, none, none, none, none, none, none]) (st1 := []) (σ1 := (wi σ 60 0 0)) rfl h3 ?_
    refine go_n 2 (f := (16, [some (.ref 60), some (.int x1), none, none, none, none, none, none, none], [.int x1, .ref 60], (wi σ 60 0 0))) rfl ?_
    obtain ⟨q4, h5, hf⟩ := bnd hf
    refine go_c (mid := 12107) (args := [.ref 60, .int x1]) (pc := 19) (L := [some (.ref 60), some (.int x1), none, none, none, none, none, none, none]) (st := []) (σ := (wi σ 60 0 0)) rfl ((fX7_knowBy_ok _ _ q4 h5).deep (Nat.le_of_ble_eq_true rfl)) ?_
    refine go_n 1 (f := (20, [some (.ref 60), some (.int x1), none, none, none, none, none, none, none], [.ref 60], q4)) rfl ?_
    obtain ⟨q6, h7, hf⟩ := bnd hf
    refine go_c (mid := 12152) (args := [.ref 60]) (pc := 23) (L := [some (.ref 60), some (.int x1), none, none, none, none, none, none, none]) (st := []) (σ := q4) rfl ((fX7_countClashes_ok _ q6 h7).deep (Nat.le_of_ble_eq_true rfl)) ?_
    refine go_n 4 (f := (27, [some (.ref 60), some (.int x1), some (.int (-1)), some (.int 0), none, none, none, none, none], [], q6)) rfl ?_
    refine go_n 5 (f := (35, [some (.ref 60), some (.int x1), some (.int (-1)), some (.int 0), some (.int 0), none, none, none, none], [], (wi q6 60 67 0))) rfl ?_
    refine go_e (L1 := [some (.ref 60), none, some (.int (-1)), some (.int 0), some (.int 0), none, none, none, none]) rfl rfl ?_
    exact fX7_best_L35_ok    N0 _ _ _ _ _ hf
  · rw [if_neg h3] at hf
    refine go_if (t := 14) (f := 12) (L1 := [some (.ref 60), some (.int x1), none, none, none, none, none, none, none]) (st1 := []) (σ1 := (wi σ 60 0 0)) rfl h3 ?_
    refine go_n 1 (f := (13, [some (.ref 60), some (.int x1), none, none, none, none, none, none, none], [.int (-1)], (wi σ 60 0 0))) rfl ?_
    cases hf
    exact go_r rfl
