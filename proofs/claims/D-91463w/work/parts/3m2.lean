set_option maxRecDepth 100000
/-! OldWeatherModel.keepSpan(JJ)Z -/
def fX7_keepSpan (x1 : Int64) (x3 : Int64) (σ : Sg) : Option (Int32 × Sg) :=
  (fX7_within x1).bind fun q1 => (fX7_within x3).bind fun q3 => ((fun (z6 : Int32) => some (z6, (wi (wi σ 60 41 q1) 60 42 q3))) ((if x3 < x1 then 0 else 1) : Int32))
set_option maxHeartbeats 1500000 in
theorem fX7_keepSpan_ok (x1 : Int64) (x3 : Int64) (σ : Sg) (r : (Int32 × Sg)) (hf : fX7_keepSpan x1 x3 σ = some r) : Cl true 1 12125 [.ref 60, .long x1, .long x3] σ (.inl (some (.int (r).1)), (r).2) := by
  refine ⟨iX7_keepSpan, rfl, Nat.le_of_ble_eq_true rfl, Nat.le_of_ble_eq_true rfl, ?_⟩
  show Go true 1 iX7_keepSpan (0, [some (.ref 60), some (.long x1), none, some (.long x3), none], [], σ) (.inl (some (.int (r).1)), (r).2)
  unfold fX7_keepSpan at hf
  refine go_n 2 (f := (2, [some (.ref 60), some (.long x1), none, some (.long x3), none], [.long x1, .ref 60], σ)) rfl ?_
  obtain ⟨q1, h2, hf⟩ := bnd hf
  refine go_c (mid := 12126) (args := [.long x1]) (pc := 5) (L := [some (.ref 60), some (.long x1), none, some (.long x3), none]) (st := [.ref 60]) (σ := σ) rfl ((fX7_within_ok _ _ q1 h2).deep (Nat.le_of_ble_eq_true rfl)) ?_
  refine go_n 3 (f := (10, [some (.ref 60), some (.long x1), none, some (.long x3), none], [.long x3, .ref 60], (wi σ 60 41 q1))) rfl ?_
  obtain ⟨q3, h4, hf⟩ := bnd hf
  refine go_c (mid := 12126) (args := [.long x3]) (pc := 13) (L := [some (.ref 60), some (.long x1), none, some (.long x3), none]) (st := [.ref 60]) (σ := (wi σ 60 41 q1)) rfl ((fX7_within_ok _ _ q3 h4).deep (Nat.le_of_ble_eq_true rfl)) ?_
  refine go_n 4 (f := (19, [some (.ref 60), some (.long x1), none, some (.long x3), none], [.int (lg_cmp x1 x3)], (wi (wi σ 60 41 q1) 60 42 q3))) rfl ?_
  refine go_m (f := (27, [none, none, none, none, none], [.int ((if x3 < x1 then 0 else 1) : Int32)], (wi (wi σ 60 41 q1) 60 42 q3))) ?_ (fun hJ7 => ?_)
  · generalize hz6 : ((if x3 < x1 then 0 else 1) : Int32) = z6 at hf ⊢
    have oz6 : am_ok 3 z6 = true := hz6 ▸ (okb rfl rfl)
    try dsimp only at hf
    cases hf
    exact go_ret rfl rfl (Or.inr (Or.inl ⟨rfl, oz6⟩))
  · by_cases h5 : x3 < x1
    · refine go_it (t := 26) (f := 22) (L1 := [some (.ref 60), some (.long x1), none, some (.long x3), none]) (st1 := []) (σ1 := (wi (wi σ 60 41 q1) 60 42 q3)) rfl ((lgc_gt x1 x3).mpr h5) ?_
      refine go_n 1 (f := (27, [some (.ref 60), some (.long x1), none, some (.long x3), none], [.int 0], (wi (wi σ 60 41 q1) 60 42 q3))) rfl ?_
      refine go_e (L1 := [none, none, none, none, none]) rfl rfl ?_
      simp only [if_pos h5] at hJ7
      first | exact hJ7 | (simp only [if_pos h5]; exact hJ7)
    · refine go_if (t := 26) (f := 22) (L1 := [some (.ref 60), some (.long x1), none, some (.long x3), none]) (st1 := []) (σ1 := (wi (wi σ 60 41 q1) 60 42 q3)) rfl (fun q => h5 ((lgc_gt x1 x3).mp q)) ?_
      refine go_n 2 (f := (27, [some (.ref 60), some (.long x1), none, some (.long x3), none], [.int 1], (wi (wi σ 60 41 q1) 60 42 q3))) rfl ?_
      refine go_e (L1 := [none, none, none, none, none]) rfl rfl ?_
      simp only [if_neg h5] at hJ7
      first | exact hJ7 | (simp only [if_neg h5]; exact hJ7)
/-! OldWeatherModel.at(I)I -/
def fX7_at (x1 : Int32) (σ : Sg) : Option Int32 :=
  (fX7_sourceOf x1 σ).bind fun q1 => (fX7_placeOf q1 σ).bind fun q3 => some q3
set_option maxHeartbeats 1500000 in
theorem fX7_at_ok (x1 : Int32) (σ : Sg) (r : Int32) (hf : fX7_at x1 σ = some r) : Cl true 2 12132 [.ref 60, .int x1] σ (.inl (some (.int r)), σ) := by
  refine ⟨iX7_at, rfl, Nat.le_of_ble_eq_true rfl, Nat.le_of_ble_eq_true rfl, ?_⟩
  show Go true 2 iX7_at (0, [some (.ref 60), some (.int x1)], [], σ) (.inl (some (.int r)), σ)
  unfold fX7_at at hf
  refine go_n 3 (f := (3, [some (.ref 60), some (.int x1)], [.int x1, .ref 60, .ref 60], σ)) rfl ?_
  obtain ⟨q1, h2, hf⟩ := bnd hf
  refine go_c (mid := 12066) (args := [.ref 60, .int x1]) (pc := 6) (L := [some (.ref 60), some (.int x1)]) (st := [.ref 60]) (σ := σ) rfl ((fX7_sourceOf_ok _ _ q1 h2).deep (Nat.le_of_ble_eq_true rfl)) ?_
  obtain ⟨q3, h4, hf⟩ := bnd hf
  refine go_c (mid := 12120) (args := [.ref 60, .int q1]) (pc := 9) (L := [some (.ref 60), some (.int x1)]) (st := []) (σ := σ) rfl ((fX7_placeOf_ok _ _ q3 h4).deep (Nat.le_of_ble_eq_true rfl)) ?_
  cases hf
  exact go_r rfl
/-! OldWeatherModel.isDate(IIII)Z -/
def fX7_isDate (x0 : Int32) (x1 : Int32) (x2 : Int32) (x3 : Int32) : Option Int32 :=
  (fX7_in x0.toInt64 1600 1901).bind fun q1 => if q1 = 0 then some 0 else (fX7_in x1.toInt64 1 12).bind fun q4 => if q4 = 0 then some 0 else (fX7_monthLong x0 x1 x3).bind fun q7 => (fX7_in x2.toInt64 1 q7.toInt64).bind fun q9 => ((fun (z12 : Int32) => some z12) ((if q9 = 0 then 0 else 1) : Int32))
set_option maxHeartbeats 1500000 in
theorem fX7_isDate_ok (x0 : Int32) (x1 : Int32) (x2 : Int32) (x3 : Int32) (σ : Sg) (r : Int32) (hf : fX7_isDate x0 x1 x2 x3 = some r) : Cl true 2 12038 [.int x0, .int x1, .int x2, .int x3] σ (.inl (some (.int r)), σ) := by
  refine ⟨iX7_isDate, rfl, Nat.le_of_ble_eq_true rfl, Nat.le_of_ble_eq_true rfl, ?_⟩
  show Go true 2 iX7_isDate (0, [some (.int x0), some (.int x1), some (.int x2), some (.int x3)], [], σ) (.inl (some (.int r)), σ)
  unfold fX7_isDate at hf
  refine go_n 4 (f := (8, [some (.int x0), some (.int x1), some (.int x2), some (.int x3)], [.long 1901, .long 1600, .long x0.toInt64], σ)) rfl ?_
  obtain ⟨q1, h2, hf⟩ := bnd hf
  refine go_c (mid := 12034) (args := [.long x0.toInt64, .long 1600, .long 1901]) (pc := 11) (L := [some (.int x0), some (.int x1), some (.int x2), some (.int x3)]) (st := []) (σ := σ) rfl ((fX7_in_ok _ _ _ _ q1 h2).deep (Nat.le_of_ble_eq_true rfl)) ?_
  by_cases h3 : q1 = 0
  · rw [if_pos h3] at hf
    refine go_it (t := 46) (f := 14) (L1 := [some (.int x0), some (.int x1), some (.int x2), some (.int x3)]) (st1 := []) (σ1 := σ) rfl h3 ?_
    refine go_e (L1 := [none, none, none, none]) rfl rfl ?_
    refine go_n 1 (f := (47, [none, none, none, none], [.int 0], σ)) rfl ?_
    cases hf
    exact go_r rfl
  · rw [if_neg h3] at hf
    refine go_if (t := 46) (f := 14) (L1 := [some (.int x0), some (.int x1), some (.int x2), some (.int x3)]) (st1 := []) (σ1 := σ) rfl h3 ?_
    refine go_n 4 (f := (20, [some (.int x0), some (.int x1), some (.int x2), some (.int x3)], [.long 12, .long 1, .long x1.toInt64], σ)) rfl ?_
    obtain ⟨q4, h5, hf⟩ := bnd hf
    refine go_c (mid := 12034) (args := [.long x1.toInt64, .long 1, .long 12]) (pc := 23) (L := [some (.int x0), some (.int x1), some (.int x2), some (.int x3)]) (st := []) (σ := σ) rfl ((fX7_in_ok _ _ _ _ q4 h5).deep (Nat.le_of_ble_eq_true rfl)) ?_
    by_cases h6 : q4 = 0
    · rw [if_pos h6] at hf
      refine go_it (t := 46) (f := 26) (L1 := [some (.int x0), some (.int x1), some (.int x2), some (.int x3)]) (st1 := []) (σ1 := σ) rfl h6 ?_
      refine go_e (L1 := [none, none, none, none]) rfl rfl ?_
      refine go_n 1 (f := (47, [none, none, none, none], [.int 0], σ)) rfl ?_
      cases hf
      exact go_r rfl
    · rw [if_neg h6] at hf
      refine go_if (t := 46) (f := 26) (L1 := [some (.int x0), some (.int x1), some (.int x2), some (.int x3)]) (st1 := []) (σ1 := σ) rfl h6 ?_
      refine go_n 6 (f := (32, [some (.int x0), some (.int x1), some (.int x2), some (.int x3)], [.int x3, .int x1, .int x0, .long 1, .long x2.toInt64], σ)) rfl ?_
      obtain ⟨q7, h8, hf⟩ := bnd hf
      refine go_c (mid := 12039) (args := [.int x0, .int x1, .int x3]) (pc := 35) (L := [some (.int x0), some (.int x1), some (.int x2), some (.int x3)]) (st := [.long 1, .long x2.toInt64]) (σ := σ) rfl ((fX7_monthLong_ok _ _ _ _ q7 h8).deep (Nat.le_of_ble_eq_true rfl)) ?_
      refine go_n 1 (f := (36, [some (.int x0), some (.int x1), some (.int x2), some (.int x3)], [.long q7.toInt64, .long 1, .long x2.toInt64], σ)) rfl ?_
      obtain ⟨q9, h10, hf⟩ := bnd hf
      refine go_c (mid := 12034) (args := [.long x2.toInt64, .long 1, .long q7.toInt64]) (pc := 39) (L := [some (.int x0), some (.int x1), some (.int x2), some (.int x3)]) (st := []) (σ := σ) rfl ((fX7_in_ok _ _ _ _ q9 h10).deep (Nat.le_of_ble_eq_true rfl)) ?_
      refine go_m (f := (47, [none, none, none, none], [.int ((if q9 = 0 then 0 else 1) : Int32)], σ)) ?_ (fun hJ13 => ?_)
      · generalize hz12 : ((if q9 = 0 then 0 else 1) : Int32) = z12 at hf ⊢
        have oz12 : am_ok 3 z12 = true := hz12 ▸ (okb rfl rfl)
        try dsimp only at hf
        cases hf
        exact go_ret rfl rfl (Or.inr (Or.inl ⟨rfl, oz12⟩))
      · by_cases h11 : q9 = 0
        · refine go_it (t := 46) (f := 42) (L1 := [some (.int x0), some (.int x1), some (.int x2), some (.int x3)]) (st1 := []) (σ1 := σ) rfl h11 ?_
          refine go_e (L1 := [none, none, none, none]) rfl rfl ?_
          refine go_n 1 (f := (47, [none, none, none, none], [.int 0], σ)) rfl ?_
          refine go_e (L1 := [none, none, none, none]) rfl rfl ?_
          simp only [if_pos h11] at hJ13
          first | exact hJ13 | (simp only [if_pos h11]; exact hJ13)
        · refine go_if (t := 46) (f := 42) (L1 := [some (.int x0), some (.int x1), some (.int x2), some (.int x3)]) (st1 := []) (σ1 := σ) rfl h11 ?_
          refine go_n 2 (f := (47, [some (.int x0), some (.int x1), some (.int x2), some (.int x3)], [.int 1], σ)) rfl ?_
          refine go_e (L1 := [none, none, none, none]) rfl rfl ?_
          simp only [if_neg h11] at hJ13
          first | exact hJ13 | (simp only [if_neg h11]; exact hJ13)
/-! OldWeatherModel.date(II)I -/
def fX7_date_J34 (x1 : Int32) (x2 : Int32)  (σ : Sg) : Option (Int32 × Sg) :=
  (fX7_findDate x1 x2 σ).bind fun q8 => some (((((gi q8 60 5) * 10000) + ((gi q8 60 6) * 100)) + (gi q8 60 7)), q8)
set_option maxHeartbeats 1500000 in
theorem fX7_date_J34_ok (x1 : Int32) (x2 : Int32)  (σ : Sg)  (r : (Int32 × Sg)) (hf : fX7_date_J34 x1 x2  σ = some r) : Go true 3 iX7_date (34, [some (.ref 60), some (.int x1), some (.int x2)], [], σ) (.inl (some (.int (r).1)), (r).2) := by
  unfold fX7_date_J34 at hf
  refine go_n 3 (f := (37, [some (.ref 60), some (.int x1), some (.int x2)], [.int x2, .int x1, .ref 60], σ)) rfl ?_
  obtain ⟨q8, h9, hf⟩ := bnd hf
  refine go_c (mid := 12044) (args := [.ref 60, .int x1, .int x2]) (pc := 40) (L := [some (.ref 60), some (.int x1), some (.int x2)]) (st := []) (σ := σ) rfl ((fX7_findDate_ok _ _ _ q8 h9).deep (Nat.le_of_ble_eq_true rfl)) ?_
  refine go_n 10 (f := (57, [some (.ref 60), some (.int x1), some (.int x2)], [.ref 60, .int (((gi q8 60 5) * 10000) + ((gi q8 60 6) * 100))], q8)) rfl ?_
  refine go_n 2 (f := (61, [some (.ref 60), some (.int x1), some (.int x2)], [.int ((((gi q8 60 5) * 10000) + ((gi q8 60 6) * 100)) + (gi q8 60 7))], q8)) rfl ?_
  cases hf
  exact go_r rfl
def fX7_date (x1 : Int32) (x2 : Int32) (σ : Sg) : Option (Int32 × Sg) :=
  (fX7_isDay x1).bind fun q1 => if q1 = 0 then some ((-1), (wi σ 60 0 0)) else (fX7_in x2.toInt64 0 1).bind fun q4 => if q4 = 0 then some ((-1), (wi σ 60 0 0)) else if x2 ≠ 0 then fX7_date_J34 x1 x2  (wi σ 60 0 0) else if 10 ≤ x1 then fX7_date_J34 x1 x2  (wi σ 60 0 0) else some ((-1), (wi σ 60 0 0))
set_option maxHeartbeats 1500000 in
theorem fX7_date_ok (x1 : Int32) (x2 : Int32) (σ : Sg) (r : (Int32 × Sg)) (hf : fX7_date x1 x2 σ = some r) : Cl true 3 12043 [.ref 60, .int x1, .int x2] σ (.inl (some (.int (r).1)), (r).2) := by
  refine ⟨iX7_date, rfl, Nat.le_of_ble_eq_true rfl, Nat.le_of_ble_eq_true rfl, ?_⟩
  show Go true 3 iX7_date (0, [some (.ref 60), some (.int x1), some (.int x2)], [], σ) (.inl (some (.int (r).1)), (r).2)
  unfold fX7_date at hf
  refine go_n 4 (f := (6, [some (.ref 60), some (.int x1), some (.int x2)], [.int x1], (wi σ 60 0 0))) rfl ?_
  obtain ⟨q1, h2, hf⟩ := bnd hf
  refine go_c (mid := 12042) (args := [.int x1]) (pc := 9) (L := [some (.ref 60), some (.int x1), some (.int x2)]) (st := []) (σ := (wi σ 60 0 0)) rfl ((fX7_isDay_ok _ _ q1 h2).deep (Nat.le_of_ble_eq_true rfl)) ?_
  by_cases h3 : q1 = 0
  · rw [if_pos h3] at hf
    refine go_it (t := 32) (f := 12) (L1 := [some (.ref 60), some (.int x1), some (.int x2)]) (st1 := []) (σ1 := (wi σ 60 0 0)) rfl h3 ?_
    refine go_e (L1 := [none, none, none]) rfl rfl ?_
    refine go_n 1 (f := (33, [none, none, none], [.int (-1)], (wi σ 60 0 0))) rfl ?_
    cases hf
    exact go_r rfl
  · rw [if_neg h3] at hf
    refine go_if (t := 32) (f := 12) (L1 := [some (.ref 60), some (.int x1), some (.int x2)]) (st1 := []) (σ1 := (wi σ 60 0 0)) rfl h3 ?_
    refine go_n 4 (f := (16, [some (.ref 60), some (.int x1), some (.int x2)], [.long 1, .long 0, .long x2.toInt64], (wi σ 60 0 0))) rfl ?_
    obtain ⟨q4, h5, hf⟩ := bnd hf
    refine go_c (mid := 12034) (args := [.long x2.toInt64, .long 0, .long 1]) (pc := 19) (L := [some (.ref 60), some (.int x1), some (.int x2)]) (st := []) (σ := (wi σ 60 0 0)) rfl ((fX7_in_ok _ _ _ _ q4 h5).deep (Nat.le_of_ble_eq_true rfl)) ?_
    by_cases h6 : q4 = 0
    · rw [if_pos h6] at hf
      refine go_it (t := 32) (f := 22) (L1 := [some (.ref 60), some (.int x1), some (.int x2)]) (st1 := []) (σ1 := (wi σ 60 0 0)) rfl h6 ?_
      refine go_e (L1 := [none, none, none]) rfl rfl ?_
      refine go_n 1 (f := (33, [none, none, none], [.int (-1)], (wi σ 60 0 0))) rfl ?_
      cases hf
      exact go_r rfl
    · rw [if_neg h6] at hf
      refine go_if (t := 32) (f := 22) (L1 := [some (.ref 60), some (.int x1), some (.int x2)]) (st1 := []) (σ1 := (wi σ 60 0 0)) rfl h6 ?_
      refine go_n 1 (f := (23, [some (.ref 60), some (.int x1), some (.int x2)], [.int x2], (wi σ 60 0 0))) rfl ?_
      by_cases h7 : x2 ≠ 0
      · rw [if_pos h7] at hf
        refine go_it (t := 34) (f := 26) (L1 := [some (.ref 60), some (.int x1), some (.int x2)]) (st1 := []) (σ1 := (wi σ 60 0 0)) rfl h7 ?_
        exact fX7_date_J34_ok _ _  _  _ hf
      · rw [if_neg h7] at hf
        refine go_if (t := 34) (f := 26) (L1 := [some (.ref 60), some (.int x1), some (.int x2)]) (st1 := []) (σ1 := (wi σ 60 0 0)) rfl h7 ?_
        refine go_n 2 (f := (29, [some (.ref 60), some (.int x1), some (.int x2)], [.int 10, .int x1], (wi σ 60 0 0))) rfl ?_
        by_cases h10 : 10 ≤ x1
        · rw [if_pos h10] at hf
          refine go_it (t := 34) (f := 32) (L1 := [some (.ref 60), some (.int x1), some (.int x2)]) (st1 := []) (σ1 := (wi σ 60 0 0)) rfl h10 ?_
          exact fX7_date_J34_ok _ _  _  _ hf
        · rw [if_neg h10] at hf
          refine go_if (t := 34) (f := 32) (L1 := [some (.ref 60), some (.int x1), some (.int x2)]) (st1 := []) (σ1 := (wi σ 60 0 0)) rfl h10 ?_
          refine go_e (L1 := [none, none, none]) rfl rfl ?_
          refine go_n 1 (f := (33, [none, none, none], [.int (-1)], (wi σ 60 0 0))) rfl ?_
          cases hf
          exact go_r rfl
/-! OldWeatherModel.tell(IIIIIIZII)I -/
def fX7_tell_J49   (σ : Sg) : Option (Int32 × Sg) :=
  (fX7_told (-1) σ).bind fun q5 => some (q5.1, q5.2)
set_option maxHeartbeats 1500000 in
theorem fX7_tell_J49_ok   (σ : Sg)  (r : (Int32 × Sg)) (hf : fX7_tell_J49   σ = some r) : Go true 3 iX7_tell (49, [some (.ref 60), none, none, none, none, none, none, none, none, none, none], [], σ) (.inl (some (.int (r).1)), (r).2) := by
  unfold fX7_tell_J49 at hf
  refine go_n 2 (f := (51, [some (.ref 60), none, none, none, none, none, none, none, none, none, none], [.int (-1), .ref 60], σ)) rfl ?_
  obtain ⟨q5, h6, hf⟩ := bnd hf
  refine go_c (mid := 12035) (args := [.ref 60, .int (-1)]) (pc := 54) (L := [some (.ref 60), none, none, none, none, none, none, none, none, none, none]) (st := []) (σ := σ) rfl ((fX7_told_ok _ _ q5 h6).deep (Nat.le_of_ble_eq_true rfl)) ?_
  cases hf
  exact go_r rfl
def fX7_tell_J77   (σ : Sg) : Option (Int32 × Sg) :=
  (fX7_told (-2) σ).bind fun q14 => some (q14.1, q14.2)
set_option maxHeartbeats 1500000 in
theorem fX7_tell_J77_ok   (σ : Sg)  (r : (Int32 × Sg)) (hf : fX7_tell_J77   σ = some r) : Go true 3 iX7_tell (77, [some (.ref 60), none, none, none, none, none, none, none, none, none, none], [], σ) (.inl (some (.int (r).1)), (r).2) := by
  unfold fX7_tell_J77 at hf
  refine go_n 2 (f := (80, [some (.ref 60), none, none, none, none, none, none, none, none, none, none], [.int (-2), .ref 60], σ)) rfl ?_
  obtain ⟨q14, h15, hf⟩ := bnd hf
  refine go_c (mid := 12035) (args := [.ref 60, .int (-2)]) (pc := 83) (L := [some (.ref 60), none, none, none, none, none, none, none, none, none, none]) (st := []) (σ := σ) rfl ((fX7_told_ok _ _ q14 h15).deep (Nat.le_of_ble_eq_true rfl)) ?_
  cases hf
  exact go_r rfl
def fX7_tell_J84 (x1 : Int32) (x2 : Int32) (x3 : Int32) (x4 : Int32) (x5 : Int32) (x6 : Int32) (x8 : Int32) (x9 : Int32)  (σ : Sg) : Option (Int32 × Sg) :=
  if (gi σ 61 2) ≠ 200 then (fX7_keep x1 x2 x3 x4 x5 x6 x8 x9 σ).bind fun q18 => (fX7_told q18.1 q18.2).bind fun q20 => some (q20.1, q20.2) else (fX7_told (-5) σ).bind fun q22 => some (q22.1, q22.2)
set_option maxHeartbeats 1500000 in
theorem fX7_tell_J84_ok (x1 : Int32) (x2 : Int32) (x3 : Int32) (x4 : Int32) (x5 : Int32) (x6 : Int32) (x8 : Int32) (x9 : Int32)  (σ : Sg)  (r : (Int32 × Sg)) (hf : fX7_tell_J84 x1 x2 x3 x4 x5 x6 x8 x9  σ = some r) : Go true 3 iX7_tell (84, [some (.ref 60), some (.int x1), some (.int x2), some (.int x3), some (.int x4), some (.int x5), some (.int x6), none, some (.int x8), some (.int x9), none], [], σ) (.inl (some (.int (r).1)), (r).2) := by
  unfold fX7_tell_J84 at hf
  refine go_n 5 (f := (93, [some (.ref 60), some (.int x1), some (.int x2), some (.int x3), some (.int x4), some (.int x5), some (.int x6), none, some (.int x8), some (.int x9), none], [.int 200, .int (gi σ 61 2)], σ)) rfl ?_
  by_cases h17 : (gi σ 61 2) ≠ 200
  · rw [if_pos h17] at hf
    refine go_it (t := 103) (f := 96) (L1 := [some (.ref 60), some (.int x1), some (.int x2), some (.int x3), some (.int x4), some (.int x5), some (.int x6), none, some (.int x8), some (.int x9), none]) (st1 := []) (σ1 := σ) rfl h17 ?_
    refine go_n 10 (f := (118, [some (.ref 60), some (.int x1), some (.int x2), some (.int x3), some (.int x4), some (.int x5), some (.int x6), none, some (.int x8), some (.int x9), none], [.int x9, .int x8, .int x6, .int x5, .int x4, .int x3, .int x2, .int x1, .ref 60, .ref 60], σ)) rfl ?_
    obtain ⟨q18, h19, hf⟩ := bnd hf
    refine go_c (mid := 12059) (args := [.ref 60, .int x1, .int x2, .int x3, .int x4, .int x5, .int x6, .int x8, .int x9]) (pc := 121) (L := [some (.ref 60), some (.int x1), some (.int x2), some (.int x3), some (.int x4), some (.int x5), some (.int x6), none, some (.int x8), some (.int x9), none]) (st := [.ref 60]) (σ := σ) rfl ((fX7_keep_ok _ _ _ _ _ _ _ _ _ q18 h19).deep (Nat.le_of_ble_eq_true rfl)) ?_
    obtain ⟨q20, h21, hf⟩ := bnd hf
    refine go_c (mid := 12035) (args := [.ref 60, .int q18.1]) (pc := 124) (L := [some (.ref 60), some (.int x1), some (.int x2), some (.int x3), some (.int x4), some (.int x5), some (.int x6), none, some (.int x8), some (.int x9), none]) (st := []) (σ := q18.2) rfl ((fX7_told_ok _ _ q20 h21).deep (Nat.le_of_ble_eq_true rfl)) ?_
    cases hf
    exact go_r rfl
  · rw [if_neg h17] at hf
    refine go_if (t := 103) (f := 96) (L1 := [some (.ref 60), some (.int x1), some (.int x2), some (.int x3), some (.int x4), some (.int x5), some (.int x6), none, some (.int x8), some (.int x9), none]) (st1 := []) (σ1 := σ) rfl h17 ?_
    refine go_n 2 (f := (99, [some (.ref 60), some (.int x1), some (.int x2), some (.int x3), some (.int x4), some (.int x5), some (.int x6), none, some (.int x8), some (.int x9), none], [.int (-5), .ref 60], σ)) rfl ?_
    obtain ⟨q22, h23, hf⟩ := bnd hf
    refine go_c (mid := 12035) (args := [.ref 60, .int (-5)]) (pc := 102) (L := [some (.ref 60), some (.int x1), some (.int x2), some (.int x3), some (.int x4), some (.int x5), some (.int x6), none, some (.int x8), some (.int x9), none]) (st := []) (σ := σ) rfl ((fX7_told_ok _ _ q22 h23).deep (Nat.le_of_ble_eq_true rfl)) ?_
    cases hf
    exact go_r rfl
def fX7_tell_J29 (x1 : Int32) (x2 : Int32) (x3 : Int32) (x4 : Int32) (x5 : Int32) (x6 : Int32) (x7 : Int32) (x8 : Int32) (x9 : Int32) (s0 : Int32)  (σ : Sg) : Option (Int32 × Sg) :=
  if x7 = 0 then fX7_tell_J49   σ else if s0 = 0 then fX7_tell_J49   σ else (fX7_isKnown x8).bind fun q8 => if q8 ≠ 0 then (fX7_isSource x2 σ).bind fun q11 => if q11 = 0 then fX7_tell_J77   σ else if x1 ≠ 4 then fX7_tell_J84 x1 x2 x3 x4 x5 x6 x8 x9  σ else (fX7_isReading x9 σ).bind fun q24 => if q24 ≠ 0 then fX7_tell_J84 x1 x2 x3 x4 x5 x6 x8 x9  σ else fX7_tell_J77   σ else fX7_tell_J49   σ
set_option maxHeartbeats 1500000 in
theorem fX7_tell_J29_ok (x1 : Int32) (x2 : Int32) (x3 : Int32) (x4 : Int32) (x5 : Int32) (x6 : Int32) (x7 : Int32) (x8 : Int32) (x9 : Int32) (s0 : Int32)  (σ : Sg)  (r : (Int32 × Sg)) (hf : fX7_tell_J29 x1 x2 x3 x4 x5 x6 x7 x8 x9 s0  σ = some r) : Go true 3 iX7_tell (29, [some (.ref 60), some (.int x1), some (.int x2), some (.int x3), some (.int x4), some (.int x5), some (.int x6), some (.int x7), some (.int x8), some (.int x9), none], [.int s0], σ) (.inl (some (.int (r).1)), (r).2) := by
  unfold fX7_tell_J29 at hf
  refine go_n 2 (f := (33, [some (.ref 60), some (.int x1), some (.int x2), some (.int x3), some (.int x4), some (.int x5), some (.int x6), some (.int x7), some (.int x8), some (.int x9), some (.int s0)], [.int x7], σ)) rfl ?_
  by_cases h4 : x7 = 0
  · rw [if_pos h4] at hf
    refine go_it (t := 49) (f := 36) (L1 := [some (.ref 60), some (.int x1), some (.int x2), some (.int x3), some (.int x4), some (.int x5), some (.int x6), some (.int x7), some (.int x8), some (.int x9), some (.int s0)]) (st1 := []) (σ1 := σ) rfl h4 ?_
    refine go_e (L1 := [some (.ref 60), none, none, none, none, none, none, none, none, none, none]) rfl rfl ?_
    exact fX7_tell_J49_ok   _  _ hf
  · rw [if_neg h4] at hf
    refine go_if (t := 49) (f := 36) (L1 := [some (.ref 60), some (.int x1), some (.int x2), some (.int x3), some (.int x4), some (.int x5), some (.int x6), some (.int x7), some (.int x8), some (.int x9), some (.int s0)]) (st1 := []) (σ1 := σ) rfl h4 ?_
    refine go_n 1 (f := (38, [some (.ref 60), some (.int x1), some (.int x2), some (.int x3), some (.int x4), some (.int x5), some (.int x6), some (.int x7), some (.int x8), some (.int x9), some (.int s0)], [.int s0], σ)) rfl ?_
    by_cases h7 : s0 = 0
    · rw [if_pos h7] at hf
      refine go_it (t := 49) (f := 41) (L1 := [some (.ref 60), some (.int x1), some (.int x2), some (.int x3), some (.int x4), some (.int x5), some (.int x6), some (.int x7), some (.int x8), some (.int x9), some (.int s0)]) (st1 := []) (σ1 := σ) rfl h7 ?_
      refine go_e (L1 := [some (.ref 60), none, none, none, none, none, none, none, none, none, none]) rfl rfl ?_
      exact fX7_tell_J49_ok   _  _ hf
    · rw [if_neg h7] at hf
      refine go_if (t := 49) (f := 41) (L1 := [some (.ref 60), some (.int x1), some (.int x2), some (.int x3), some (.int x4), some (.int x5), some (.int x6), some (.int x7), some (.int x8), some (.int x9), some (.int s0)]) (st1 := []) (σ1 := σ) rfl h7 ?_
      refine go_n 1 (f := (43, [some (.ref 60), some (.int x1), some (.int x2), some (.int x3), some (.int x4), some (.int x5), some (.int x6), some (.int x7), some (.int x8), some (.int x9), some (.int s0)], [.int x8], σ)) rfl ?_
      obtain ⟨q8, h9, hf⟩ := bnd hf
      refine go_c (mid := 12057) (args := [.int x8]) (pc := 46) (L := [some (.ref 60), some (.int x1), some (.int x2), some (.int x3), some (.int x4), some (.int x5), some (.int x6), some (.int x7), some (.int x8), some (.int x9), some (.int s0)]) (st := []) (σ := σ) rfl ((fX7_isKnown_ok _ _ q8 h9).deep (Nat.le_of_ble_eq_true rfl)) ?_
      by_cases h10 : q8 ≠ 0
      · rw [if_pos h10] at hf
        refine go_it (t := 55) (f := 49) (L1 := [some (.ref 60), some (.int x1), some (.int x2), some (.int x3), some (.int x4), some (.int x5), some (.int x6), some (.int x7), some (.int x8), some (.int x9), some (.int s0)]) (st1 := []) (σ1 := σ) rfl h10 ?_
        refine go_n 2 (f := (57, [some (.ref 60), some (.int x1), some (.int x2), some (.int x3), some (.int x4), some (.int x5), some (.int x6), some (.int x7), some (.int x8), some (.int x9), some (.int s0)], [.int x2, .ref 60], σ)) rfl ?_
        obtain ⟨q11, h12, hf⟩ := bnd hf
        refine go_c (mid := 12053) (args := [.ref 60, .int x2]) (pc := 60) (L := [some (.ref 60), some (.int x1), some (.int x2), some (.int x3), some (.int x4), some (.int x5), some (.int x6), some (.int x7), some (.int x8), some (.int x9), some (.int s0)]) (st := []) (σ := σ) rfl ((fX7_isSource_ok _ _ q11 h12).deep (Nat.le_of_ble_eq_true rfl)) ?_
        by_cases h13 : q11 = 0
        · rw [if_pos h13] at hf
          refine go_it (t := 77) (f := 63) (L1 := [some (.ref 60), some (.int x1), some (.int x2), some (.int x3), some (.int x4), some (.int x5), some (.int x6), some (.int x7), some (.int x8), some (.int x9), some (.int s0)]) (st1 := []) (σ1 := σ) rfl h13 ?_
          refine go_e (L1 := [some (.ref 60), none, none, none, none, none, none, none, none, none, none]) rfl rfl ?_
          exact fX7_tell_J77_ok   _  _ hf
        · rw [if_neg h13] at hf
          refine go_if (t := 77) (f := 63) (L1 := [some (.ref 60), some (.int x1), some (.int x2), some (.int x3), some (.int x4), some (.int x5), some (.int x6), some (.int x7), some (.int x8), some (.int x9), some (.int s0)]) (st1 := []) (σ1 := σ) rfl h13 ?_
          refine go_n 2 (f := (65, [some (.ref 60), some (.int x1), some (.int x2), some (.int x3), some (.int x4), some (.int x5), some (.int x6), some (.int x7), some (.int x8), some (.int x9), some (.int s0)], [.int 4, .int x1], σ)) rfl ?_
          by_cases h16 : x1 ≠ 4
          · rw [if_pos h16] at hf
            refine go_it (t := 84) (f := 68) (L1 := [some (.ref 60), some (.int x1), some (.int x2), some (.int x3), some (.int x4), some (.int x5), some (.int x6), some (.int x7), some (.int x8), some (.int x9), some (.int s0)]) (st1 := []) (σ1 := σ) rfl h16 ?_
            refine go_e (L1 := [some (.ref 60), some (.int x1), some (.int x2), some (.int x3), some (.int x4), some (.int x5), some (.int x6), none, some (.int x8), some (.int x9), none]) rfl rfl ?_
            exact fX7_tell_J84_ok _ _ _ _ _ _ _ _  _  _ hf
          · rw [if_neg h16] at hf
            refine go_if (t := 84) (f := 68) (L1 := [some (.ref 60), some (.int x1), some (.int x2), some (.int x3), some (.int x4), some (.int x5), some (.int x6), some (.int x7), some (.int x8), some (.int x9), some (.int s0)]) (st1 := []) (σ1 := σ) rfl h16 ?_
            refine go_n 2 (f := (71, [some (.ref 60), some (.int x1), some (.int x2), some (.int x3), some (.int x4), some (.int x5), some (.int x6), some (.int x7), some (.int x8), some (.int x9), some (.int s0)], [.int x9, .ref 60], σ)) rfl ?_
            obtain ⟨q24, h25, hf⟩ := bnd hf
            refine go_c (mid := 12058) (args := [.ref 60, .int x9]) (pc := 74) (L := [some (.ref 60), some (.int x1), some (.int x2), some (.int x3), some (.int x4), some (.int x5), some (.int x6), some (.int x7), some (.int x8), some (.int x9), some (.int s0)]) (st := []) (σ := σ) rfl ((fX7_isReading_ok _ _ q24 h25).deep (Nat.le_of_ble_eq_true rfl)) ?_
            by_cases h26 : q24 ≠ 0
            · rw [if_pos h26] at hf
              refine go_it (t := 84) (f := 77) (L1 := [some (.ref 60), some (.int x1), some (.int x2), some (.int x3), some (.int x4), some (.int x5), some (.int x6), some (.int x7), some (.int x8), some (.int x9), some (.int s0)]) (st1 := []) (σ1 := σ) rfl h26 ?_
              refine go_e (L1 := [some (.ref 60), some (.int x1), some (.int x2), some (.int x3), some (.int x4), some (.int x5), some (.int x6), none, some (.int x8), some (.int x9), none]) rfl rfl ?_
              exact fX7_tell_J84_ok _ _ _ _ _ _ _ _  _  _ hf
            · rw [if_neg h26] at hf
              refine go_if (t := 84) (f := 77) (L1 := [some (.ref 60), some (.int x1), some (.int x2), some (.int x3), some (.int x4), some (.int x5), some (.int x6), some (.int x7), some (.int x8), some (.int x9), some (.int s0)]) (st1 := []) (σ1 := σ) rfl h26 ?_
              refine go_e (L1 := [some (.ref 60), none, none, none, none, none, none, none, none, none, none]) rfl rfl ?_
              exact fX7_tell_J77_ok   _  _ hf
      · rw [if_neg h10] at hf
        refine go_if (t := 55) (f := 49) (L1 := [some (.ref 60), some (.int x1), some (.int x2), some (.int x3), some (.int x4), some (.int x5), some (.int x6), some (.int x7), some (.int x8), some (.int x9), some (.int s0)]) (st1 := []) (σ1 := σ) rfl h10 ?_
        refine go_e (L1 := [some (.ref 60), none, none, none, none, none, none, none, none, none, none]) rfl rfl ?_
        exact fX7_tell_J49_ok   _  _ hf
def fX7_tell_J24 (x1 : Int32) (x2 : Int32) (x3 : Int32) (x4 : Int32) (x5 : Int32) (x6 : Int32) (x7 : Int32) (x8 : Int32) (x9 : Int32)  (σ : Sg) : Option (Int32 × Sg) :=
  fX7_tell_J29 x1 x2 x3 x4 x5 x6 x7 x8 x9 1  σ
set_option maxHeartbeats 1500000 in
theorem fX7_tell_J24_ok (x1 : Int32) (x2 : Int32) (x3 : Int32) (x4 : Int32) (x5 : Int32) (x6 : Int32) (x7 : Int32) (x8 : Int32) (x9 : Int32)  (σ : Sg)  (r : (Int32 × Sg)) (hf : fX7_tell_J24 x1 x2 x3 x4 x5 x6 x7 x8 x9  σ = some r) : Go true 3 iX7_tell (24, [some (.ref 60), some (.int x1), some (.int x2), some (.int x3), some (.int x4), some (.int x5), some (.int x6), some (.int x7), some (.int x8), some (.int x9), none], [], σ) (.inl (some (.int (r).1)), (r).2) := by
  unfold fX7_tell_J24 at hf
  refine go_n 2 (f := (29, [some (.ref 60), some (.int x1), some (.int x2), some (.int x3), some (.int x4), some (.int x5), some (.int x6), some (.int x7), some (.int x8), some (.int x9), none], [.int 1], σ)) rfl ?_
  exact fX7_tell_J29_ok _ _ _ _ _ _ _ _ _ _  _  _ hf
def fX7_tell (x1 : Int32) (x2 : Int32) (x3 : Int32) (x4 : Int32) (x5 : Int32) (x6 : Int32) (x7 : Int32) (x8 : Int32) (x9 : Int32) (σ : Sg) : Option (Int32 × Sg) :=
  (fX7_isDate x3 x4 x5 0).bind fun q1 => if q1 ≠ 0 then fX7_tell_J24 x1 x2 x3 x4 x5 x6 x7 x8 x9  σ else (fX7_isDate x3 x4 x5 1).bind fun q27 => ((fun (z30 : Int32) => if x7 = 0 then fX7_tell_J49   σ else if z30 = 0 then fX7_tell_J49   σ else (fX7_isKnown x8).bind fun q33 => if q33 ≠ 0 then (fX7_isSource x2 σ).bind fun q36 => if q36 = 0 then fX7_tell_J77   σ else if x1 ≠ 4 then fX7_tell_J84 x1 x2 x3 x4 x5 x6 x8 x9  σ else (fX7_isReading x9 σ).bind fun q40 => if q40 ≠ 0 then fX7_tell_J84 x1 x2 x3 x4 x5 x6 x8 x9  σ else fX7_tell_J77   σ else fX7_tell_J49   σ) ((if q27 = 0 then 0 else 1) : Int32))
set_option maxHeartbeats 1500000 in
theorem fX7_tell_ok (x1 : Int32) (x2 : Int32) (x3 : Int32) (x4 : Int32) (x5 : Int32) (x6 : Int32) (x7 : Int32) (x8 : Int32) (x9 : Int32) (σ : Sg) (r : (Int32 × Sg)) (hf : fX7_tell x1 x2 x3 x4 x5 x6 x7 x8 x9 σ = some r) : Cl true 3 12056 [.ref 60, .int x1, .int x2, .int x3, .int x4, .int x5, .int x6, .int x7, .int x8, .int x9] σ (.inl (some (.int (r).1)), (r).2) := by
  refine ⟨iX7_tell, rfl, Nat.le_of_ble_eq_true rfl, Nat.le_of_ble_eq_true rfl, ?_⟩
  show Go true 3 iX7_tell (0, [some (.ref 60), some (.int x1), some (.int x2), some (.int x3), some (.int x4), some (.int x5), some (.int x6), some (.int x7), some (.int x8), some (.int x9), none], [], σ) (.inl (some (.int (r).1)), (r).2)
  unfold fX7_tell at hf
  refine go_n 4 (f := (6, [some (.ref 60), some (.int x1), some (.int x2), some (.int x3), some (.int x4), some (.int x5), some (.int x6), some (.int x7), some (.int x8), some (.int x9), none], [.int 0, .int x5, .int x4, .int x3], σ)) rfl ?_
  obtain ⟨q1, h2, hf⟩ := bnd hf
  refine go_c (mid := 12038) (args := [.int x3, .int x4, .int x5, .int 0]) (pc := 9) (L := [some (.ref 60), some (.int x1), some (.int x2), some (.int x3), some (.int x4), some (.int x5), some (.int x6), some (.int x7), some (.int x8), some (.int x9), none]) (st := []) (σ := σ) rfl ((fX7_isDate_ok _ _ _ _ _ q1 h2).deep (Nat.le_of_ble_eq_true rfl)) ?_
  by_cases h3 : q1 ≠ 0
  · rw [if_pos h3] at hf
    refine go_it (t := 24) (f := 12) (L1 := [some (.ref 60), some (.int x1), some (.int x2), some (.int x3), some (.int x4), some (.int x5), some (.int x6), some (.int x7), some (.int x8), some (.int x9), none]) (st1 := []) (σ1 := σ) rfl h3 ?_
    exact fX7_tell_J24_ok _ _ _ _ _ _ _ _ _  _  _ hf
  · rw [if_neg h3] at hf
    refine go_if (t := 24) (f := 12) (L1 := [some (.ref 60), some (.int x1), some (.int x2), some (.int x3), some (.int x4), some (.int x5), some (.int x6), some (.int x7), some (.int x8), some (.int x9), none]) (st1 := []) (σ1 := σ) rfl h3 ?_
    refine go_n 4 (f := (18, [some (.ref 60), some (.int x1), some (.int x2), some (.int x3), some (.int x4), some (.int x5), some (.int x6), some (.int x7), some (.int x8), some (.int x9), none], [.int 1, .int x5, .int x4, .int x3], σ)) rfl ?_
    obtain ⟨q27, h28, hf⟩ := bnd hf
    refine go_c (mid := 12038) (args := [.int x3, .int x4, .int x5, .int 1]) (pc := 21) (L := [some (.ref 60), some (.int x1), some (.int x2), some (.int x3), some (.int x4), some (.int x5), some (.int x6), some (.int x7), some (.int x8), some (.int x9), none]) (st := []) (σ := σ) rfl ((fX7_isDate_ok _ _ _ _ _ q27 h28).deep (Nat.le_of_ble_eq_true rfl)) ?_
    refine go_m (f := (29, [some (.ref 60), some (.int x1), some (.int x2), some (.int x3), some (.int x4), some (.int x5), some (.int x6), some (.int x7), some (.int x8), some (.int x9), none], [.int ((if q27 = 0 then 0 else 1) : Int32)], σ)) ?_ (fun hJ43 => ?_)
    · generalize hz30 : ((if q27 = 0 then 0 else 1) : Int32) = z30 at hf ⊢
      have oz30 : am_ok 3 z30 = true := hz30 ▸ (okb rfl rfl)
      try dsimp only at hf
      refine go_n 2 (f := (33, [some (.ref 60), some (.int x1), some (.int x2), some (.int x3), some (.int x4), some (.int x5), some (.int x6), some (.int x7), some (.int x8), some (.int x9), some (.int z30)], [.int x7], σ)) rfl ?_
      by_cases h31 : x7 = 0
      · rw [if_pos h31] at hf
        refine go_it (t := 49) (f := 36) (L1 := [some (.ref 60), some (.int x1), some (.int x2), some (.int x3), some (.int x4), some (.int x5), some (.int x6), some (.int x7), some (.int x8), some (.int x9), some (.int z30)]) (st1 := []) (σ1 := σ) rfl h31 ?_
        refine go_e (L1 := [some (.ref 60), none, none, none, none, none, none, none, none, none, none]) rfl rfl ?_
        exact fX7_tell_J49_ok   _  _ hf
      · rw [if_neg h31] at hf
        refine go_if (t := 49) (f := 36) (L1 := [some (.ref 60), some (.int x1), some (.int x2), some (.int x3), some (.int x4), some (.int x5), some (.int x6), some (.int x7), some (.int x8), some (.int x9), some (.int z30)]) (st1 := []) (σ1 := σ) rfl h31 ?_
        refine go_n 1 (f := (38, [some (.ref 60), some (.int x1), some (.int x2), some (.int x3), some (.int x4), some (.int x5), some (.int x6), some (.int x7), some (.int x8), some (.int x9), some (.int z30)], [.int z30], σ)) rfl ?_
        by_cases h32 : z30 = 0
        · rw [if_pos h32] at hf
          refine go_it (t := 49) (f := 41) (L1 := [some (.ref 60), some (.int x1), some (.int x2), some (.int x3), some (.int x4), some (.int x5), some (.int x6), some (.int x7), some (.int x8), some (.int x9), some (.int z30)]) (st1 := []) (σ1 := σ) rfl h32 ?_
          refine go_e (L1 := [some (.ref 60), none, none, none, none, none, none, none, none, none, none]) rfl rfl ?_
          exact fX7_tell_J49_ok   _  _ hf
        · rw [if_neg h32] at hf
          refine go_if (t := 49) (f := 41) (L1 := [some (.ref 60), some (.int x1), some (.int x2), some (.int x3), some (.int x4), some (.int x5), some (.int x6), some (.int x7), some (.int x8), some (.int x9), some (.int z30)]) (st1 := []) (σ1 := σ) rfl h32 ?_
          refine go_n 1 (f := (43, [some (.ref 60), some (.int x1), some (.int x2), some (.int x3), some (.int x4), some (.int x5), some (.int x6), some (.int x7), some (.int x8), some (.int x9), some (.int z30)], [.int x8], σ)) rfl ?_
          obtain ⟨q33, h34, hf⟩ := bnd hf
          refine go_c (mid := 12057) (args := [.int x8]) (pc := 46) (L := [some (.ref 60), some (.int x1), some (.int x2), some (.int x3), some (.int x4), some (.int x5), some (.int x6), some (.int x7), some (.int x8), some (.int x9), some (.int z30)]) (st := []) (σ := σ) rfl ((fX7_isKnown_ok _ _ q33 h34).deep (Nat.le_of_ble_eq_true rfl)) ?_
          by_cases h35 : q33 ≠ 0
          · rw [if_pos h35] at hf
            refine go_it (t := 55) (f := 49) (L1 := [some (.ref 60), some (.int x1), some (.int x2), some (.int x3), some (.int x4), some (.int x5), some (.int x6), some (.int x7), some (.int x8), some (.int x9), some (.int z30)]) (st1 := []) (σ1 := σ) rfl h35 ?_
            refine go_n 2 (f := (57, [some (.ref 60), some (.int x1), some (.int x2), some (.int x3), some (.int x4), some (.int x5), some (.int x6), some (.int x7), some (.int x8), some (.int x9), some (.int z30)], [.int x2, .ref 60], σ)) rfl ?_
            obtain ⟨q36, h37, hf⟩ := bnd hf
            refine go_c (mid := 12053) (args := [.ref 60, .int x2]) (pc := 60) (L := [some (.ref 60), some (.int x1), some (.int x2), some (.int x3), some (.int x4), some (.int x5), some (.int x6), some (.int x7), some (.int x8), some (.int x9), some (.int z30)]) (st := []) (σ := σ) rfl ((fX7_isSource_ok _ _ q36 h37).deep (Nat.le_of_ble_eq_true rfl)) ?_
            by_cases h38 : q36 = 0
            · rw [if_pos h38] at hf
              refine go_it (t := 77) (f := 63) (L1 := [some (.ref 60), some (.int x1), some (.int x2), some (.int x3), some (.int x4), some (.int x5), some (.int x6), some (.int x7), some (.int x8), some (.int x9), some (.int z30)]) (st1 := []) (σ1 := σ) rfl h38 ?_
              refine go_e (L1 := [some (.ref 60), none, none, none, none, none, none, none, none, none, none]) rfl rfl ?_
              exact fX7_tell_J77_ok   _  _ hf
            · rw [if_neg h38] at hf
              refine go_if (t := 77) (f := 63) (L1 := [some (.ref 60), some (.int x1), some (.int x2), some (.int x3), some (.int x4), some (.int x5), some (.int x6), some (.int x7), some (.int x8), some (.int x9), some (.int z30)]) (st1 := []) (σ1 := σ) rfl h38 ?_
              refine go_n 2 (f := (65, [some (.ref 60), some (.int x1), some (.int x2), some (.int x3), some (.int x4), some (.int x5), some (.int x6), some (.int x7), some (.int x8), some (.int x9), some (.int z30)], [.int 4, .int x1], σ)) rfl ?_
              by_cases h39 : x1 ≠ 4
              · rw [if_pos h39] at hf
                refine go_it (t := 84) (f := 68) (L1 := [some (.ref 60), some (.int x1), some (.int x2), some (.int x3), some (.int x4), some (.int x5), some (.int x6), some (.int x7), some (.int x8), some (.int x9), some (.int z30)]) (st1 := []) (σ1 := σ) rfl h39 ?_
                refine go_e (L1 := [some (.ref 60), some (.int x1), some (.int x2), some (.int x3), some (.int x4), some (.int x5), some (.int x6), none, some (.int x8), some (.int x9), none]) rfl rfl ?_
                exact fX7_tell_J84_ok _ _ _ _ _ _ _ _  _  _ hf
              · rw [if_neg h39] at hf
                refine go_if (t := 84) (f := 68) (L1 := [some (.ref 60), some (.int x1), some (.int x2), some (.int x3), some (.int x4), some (.int x5), some (.int x6), some (.int x7), some (.int x8), some (.int x9), some (.int z30)]) (st1 := []) (σ1 := σ) rfl h39 ?_
                refine go_n 2 (f := (71, [some (.ref 60), some (.int x1), some (.int x2), some (.int x3), some (.int x4), some (.int x5), some (.int x6), some (.int x7), some (.int x8), some (.int x9), some (.int z30)], [.int x9, .ref 60], σ)) rfl ?_
                obtain ⟨q40, h41, hf⟩ := bnd hf
                refine go_c (mid := 12058) (args := [.ref 60, .int x9]) (pc := 74) (L := [some (.ref 60), some (.int x1), some (.int x2), some (.int x3), some (.int x4), some (.int x5), some (.int x6), some (.int x7), some (.int x8), some (.int x9), some (.int z30)]) (st := []) (σ := σ) rfl ((fX7_isReading_ok _ _ q40 h41).deep (Nat.le_of_ble_eq_true rfl)) ?_
                by_cases h42 : q40 ≠ 0
                · rw [if_pos h42] at hf
                  refine go_it (t := 84) (f := 77) (L1 := [some (.ref 60), some (.int x1), some (.int x2), some (.int x3), some (.int x4), some (.int x5), some (.int x6), some (.int x7), some (.int x8), some (.int x9), some (.int z30)]) (st1 := []) (σ1 := σ) rfl h42 ?_
                  refine go_e (L1 := [some (.ref 60), some (.int x1), some (.int x2), some (.int x3), some (.int x4), some (.int x5), some (.int x6), none, some (.int x8), some (.int x9), none]) rfl rfl ?_
                  exact fX7_tell_J84_ok _ _ _ _ _ _ _ _  _  _ hf
                · rw [if_neg h42] at hf
                  refine go_if (t := 84) (f := 77) (L1 := [some (.ref 60), some (.int x1), some (.int x2), some (.int x3), some (.int x4), some (.int x5), some (.int x6), some (.int x7), some (.int x8), some (.int x9), some (.int z30)]) (st1 := []) (σ1 := σ) rfl h42 ?_
                  refine go_e (L1 := [some (.ref 60), none, none, none, none, none, none, none, none, none, none]) rfl rfl ?_
                  exact fX7_tell_J77_ok   _  _ hf
          · rw [if_neg h35] at hf
            refine go_if (t := 55) (f := 49) (L1 := [some (.ref 60), some (.int x1), some (.int x2), some (.int x3), some (.int x4), some (.int x5), some (.int x6), some (.int x7), some (.int x8), some (.int x9), some (.int z30)]) (st1 := []) (σ1 := σ) rfl h35 ?_
            refine go_e (L1 := [some (.ref 60), none, none, none, none, none, none, none, none, none, none]) rfl rfl ?_
            exact fX7_tell_J49_ok   _  _ hf
    · by_cases h29 : q27 = 0
      · refine go_it (t := 28) (f := 24) (L1 := [some (.ref 60), some (.int x1), some (.int x2), some (.int x3), some (.int x4), some (.int x5), some (.int x6), some (.int x7), some (.int x8), some (.int x9), none]) (st1 := []) (σ1 := σ) rfl h29 ?_
        refine go_n 1 (f := (29, [some (.ref 60), some (.int x1), some (.int x2), some (.int x3), some (.int x4), some (.int x5), some (.int x6), some (.int x7), some (.int x8), some (.int x9), none], [.int 0], σ)) rfl ?_
        refine go_e (L1 := [some (.ref 60), some (.int x1), some (.int x2), some (.int x3), some (.int x4), some (.int x5), some (.int x6), some (.int x7), some (.int x8), some (.int x9), none]) rfl rfl ?_
        simp only [if_pos h29] at hJ43
        first | exact hJ43 | (simp only [if_pos h29]; exact hJ43)
      · refine go_if (t := 28) (f := 24) (L1 := [some (.ref 60), some (.int x1), some (.int x2), some (.int x3), some (.int x4), some (.int x5), some (.int x6), some (.int x7), some (.int x8), some (.int x9), none]) (st1 := []) (σ1 := σ) rfl h29 ?_
        refine go_n 2 (f := (29, [some (.ref 60), some (.int x1), some (.int x2), some (.int x3), some (.int x4), some (.int x5), some (.int x6), some (.int x7), some (.int x8), some (.int x9), none], [.int 1], σ)) rfl ?_
        refine go_e (L1 := [some (.ref 60), some (.int x1), some (.int x2), some (.int x3), some (.int x4), some (.int x5), some (.int x6), some (.int x7), some (.int x8), some (.int x9), none]) rfl rfl ?_
        simp only [if_neg h29] at hJ43
        first | exact hJ43 | (simp only [if_neg h29]; exact hJ43)
/-! OldWeatherModel.gauge(IIIIII)I -/
def fX7_gauge (x1 : Int32) (x2 : Int32) (x3 : Int32) (x4 : Int32) (x5 : Int32) (x6 : Int32) (σ : Sg) : Option (Int32 × Sg) :=
  (fX7_in x5.toInt64 (-600) 600).bind fun q1 => (fX7_tell 1 x1 x2 x3 x4 x5 q1 x6 0 (wi σ 60 0 0)).bind fun q3 => some (q3.1, q3.2)
set_option maxHeartbeats 1500000 in
theorem fX7_gauge_ok (x1 : Int32) (x2 : Int32) (x3 : Int32) (x4 : Int32) (x5 : Int32) (x6 : Int32) (σ : Sg) (r : (Int32 × Sg)) (hf : fX7_gauge x1 x2 x3 x4 x5 x6 σ = some r) : Cl true 4 12060 [.ref 60, .int x1, .int x2, .int x3, .int x4, .int x5, .int x6] σ (.inl (some (.int (r).1)), (r).2) := by
  refine ⟨iX7_gauge, rfl, Nat.le_of_ble_eq_true rfl, Nat.le_of_ble_eq_true rfl, ?_⟩
  show Go true 4 iX7_gauge (0, [some (.ref 60), some (.int x1), some (.int x2), some (.int x3), some (.int x4), some (.int x5), some (.int x6)], [], σ) (.inl (some (.int (r).1)), (r).2)
  unfold fX7_gauge at hf
  refine go_n 10 (f := (14, [some (.ref 60), some (.int x1), some (.int x2), some (.int x3), some (.int x4), some (.int x5), some (.int x6)], [.int x5, .int x4, .int x3, .int x2, .int x1, .int 1, .ref 60], (wi σ 60 0 0))) rfl ?_
  refine go_n 4 (f := (23, [some (.ref 60), some (.int x1), some (.int x2), some (.int x3), some (.int x4), some (.int x5), some (.int x6)], [.long 600, .long (-600), .long x5.toInt64, .int x5, .int x4, .int x3, .int x2, .int x1, .int 1, .ref 60], (wi σ 60 0 0))) rfl ?_
  obtain ⟨q1, h2, hf⟩ := bnd hf
  refine go_c (mid := 12034) (args := [.long x5.toInt64, .long (-600), .long 600]) (pc := 26) (L := [some (.ref 60), some (.int x1), some (.int x2), some (.int x3), some (.int x4), some (.int x5), some (.int x6)]) (st := [.int x5, .int x4, .int x3, .int x2, .int x1, .int 1, .ref 60]) (σ := (wi σ 60 0 0)) rfl ((fX7_in_ok _ _ _ _ q1 h2).deep (Nat.le_of_ble_eq_true rfl)) ?_
  refine go_n 2 (f := (29, [some (.ref 60), some (.int x1), some (.int x2), some (.int x3), some (.int x4), some (.int x5), some (.int x6)], [.int 0, .int x6, .int q1, .int x5, .int x4, .int x3, .int x2, .int x1, .int 1, .ref 60], (wi σ 60 0 0))) rfl ?_
  obtain ⟨q3, h4, hf⟩ := bnd hf
  refine go_c (mid := 12056) (args := [.ref 60, .int 1, .int x1, .int x2, .int x3, .int x4, .int x5, .int q1, .int x6, .int 0]) (pc := 32) (L := [some (.ref 60), some (.int x1), some (.int x2), some (.int x3), some (.int x4), some (.int x5), some (.int x6)]) (st := []) (σ := (wi σ 60 0 0)) rfl ((fX7_tell_ok _ _ _ _ _ _ _ _ _ _ q3 h4).deep (Nat.le_of_ble_eq_true rfl)) ?_
  cases hf
  exact go_r rfl
/-! OldWeatherModel.log(IIIIII)I -/
def fX7_log (x1 : Int32) (x2 : Int32) (x3 : Int32) (x4 : Int32) (x5 : Int32) (x6 : Int32) (σ : Sg) : Option (Int32 × Sg) :=
  (fX7_in x5.toInt64 0 12).bind fun q1 => (fX7_tell 2 x1 x2 x3 x4 x5 q1 x6 0 (wi σ 60 0 0)).bind fun q3 => some (q3.1, q3.2)
set_option maxHeartbeats 1500000 in
theorem fX7_log_ok (x1 : Int32) (x2 : Int32) (x3 : Int32) (x4 : Int32) (x5 : Int32) (x6 : Int32) (σ : Sg) (r : (Int32 × Sg)) (hf : fX7_log x1 x2 x3 x4 x5 x6 σ = some r) : Cl true 4 12061 [.ref 60, .int x1, .int x2, .int x3, .int x4, .int x5, .int x6] σ (.inl (some (.int (r).1)), (r).2) := by
  refine ⟨iX7_log, rfl, Nat.le_of_ble_eq_true rfl, Nat.le_of_ble_eq_true rfl, ?_⟩
  show Go true 4 iX7_log (0, [some (.ref 60), some (.int x1), some (.int x2), some (.int x3), some (.int x4), some (.int x5), some (.int x6)], [], σ) (.inl (some (.int (r).1)), (r).2)
  unfold fX7_log at hf
  refine go_n 10 (f := (14, [some (.ref 60), some (.int x1), some (.int x2), some (.int x3), some (.int x4), some (.int x5), some (.int x6)], [.int x5, .int x4, .int x3, .int x2, .int x1, .int 2, .ref 60], (wi σ 60 0 0))) rfl ?_
  refine go_n 4 (f := (21, [some (.ref 60), some (.int x1), some (.int x2), some (.int x3), some (.int x4), some (.int x5), some (.int x6)], [.long 12, .long 0, .long x5.toInt64, .int x5, .int x4, .int x3, .int x2, .int x1, .int 2, .ref 60], (wi σ 60 0 0))) rfl ?_
  obtain ⟨q1, h2, hf⟩ := bnd hf
  refine go_c (mid := 12034) (args := [.long x5.toInt64, .long 0, .long 12]) (pc := 24) (L := [some (.ref 60), some (.int x1), some (.int x2), some (.int x3), some (.int x4), some (.int x5), some (.int x6)]) (st := [.int x5, .int x4, .int x3, .int x2, .int x1, .int 2, .ref 60]) (σ := (wi σ 60 0 0)) rfl ((fX7_in_ok _ _ _ _ q1 h2).deep (Nat.le_of_ble_eq_true rfl)) ?_
  refine go_n 2 (f := (27, [some (.ref 60), some (.int x1), some (.int x2), some (.int x3), some (.int x4), some (.int x5), some (.int x6)], [.int 0, .int x6, .int q1, .int x5, .int x4, .int x3, .int x2, .int x1, .int 2, .ref 60], (wi σ 60 0 0))) rfl ?_
  obtain ⟨q3, h4, hf⟩ := bnd hf
  refine go_c (mid := 12056) (args := [.ref 60, .int 2, .int x1, .int x2, .int x3, .int x4, .int x5, .int q1, .int x6, .int 0]) (pc := 30) (L := [some (.ref 60), some (.int x1), some (.int x2), some (.int x3), some (.int x4), some (.int x5), some (.int x6)]) (st := []) (σ := (wi σ 60 0 0)) rfl ((fX7_tell_ok _ _ _ _ _ _ _ _ _ _ q3 h4).deep (Nat.le_of_ble_eq_true rfl)) ?_
  cases hf
  exact go_r rfl
/-! OldWeatherModel.proxy(IIIIIII)I -/
def fX7_proxy_J45 (x5 : Int32) (x7 : Int32) (s0 : Int32) (s1 : Int32) (s2 : Int32) (s3 : Int32) (s4 : Int32) (s5 : Int32) (s6 : Int32)  (σ : Sg) : Option (Int32 × Sg) :=
  (fX7_tell s6 s5 s4 s3 s2 s1 s0 x7 x5 σ).bind fun q4 => some (q4.1, q4.2)
set_option maxHeartbeats 1500000 in
theorem fX7_proxy_J45_ok (x5 : Int32) (x7 : Int32) (s0 : Int32) (s1 : Int32) (s2 : Int32) (s3 : Int32) (s4 : Int32) (s5 : Int32) (s6 : Int32)  (σ : Sg)  (r : (Int32 × Sg)) (hf : fX7_proxy_J45 x5 x7 s0 s1 s2 s3 s4 s5 s6  σ = some r) : Go true 4 iX7_proxy (45, [none, none, none, none, none, some (.int x5), none, some (.int x7)], [.int s0, .int s1, .int s2, .int s3, .int s4, .int s5, .int s6, .ref 60], σ) (.inl (some (.int (r).1)), (r).2) := by
  unfold fX7_proxy_J45 at hf
  refine go_n 2 (f := (49, [none, none, none, none, none, some (.int x5), none, some (.int x7)], [.int x5, .int x7, .int s0, .int s1, .int s2, .int s3, .int s4, .int s5, .int s6, .ref 60], σ)) rfl ?_
  obtain ⟨q4, h5, hf⟩ := bnd hf
  refine go_c (mid := 12056) (args := [.ref 60, .int s6, .int s5, .int s4, .int s3, .int s2, .int s1, .int s0, .int x7, .int x5]) (pc := 52) (L := [none, none, none, none, none, some (.int x5), none, some (.int x7)]) (st := []) (σ := σ) rfl ((fX7_tell_ok _ _ _ _ _ _ _ _ _ _ q4 h5).deep (Nat.le_of_ble_eq_true rfl)) ?_
  cases hf
  exact go_r rfl
def fX7_proxy_J44 (x5 : Int32) (x7 : Int32) (s0 : Int32) (s1 : Int32) (s2 : Int32) (s3 : Int32) (s4 : Int32) (s5 : Int32)  (σ : Sg) : Option (Int32 × Sg) :=
  fX7_proxy_J45 x5 x7 0 s0 s1 s2 s3 s4 s5  σ
set_option maxHeartbeats 1500000 in
theorem fX7_proxy_J44_ok (x5 : Int32) (x7 : Int32) (s0 : Int32) (s1 : Int32) (s2 : Int32) (s3 : Int32) (s4 : Int32) (s5 : Int32)  (σ : Sg)  (r : (Int32 × Sg)) (hf : fX7_proxy_J44 x5 x7 s0 s1 s2 s3 s4 s5  σ = some r) : Go true 4 iX7_proxy (44, [none, none, none, none, none, some (.int x5), none, some (.int x7)], [.int s0, .int s1, .int s2, .int s3, .int s4, .int s5, .ref 60], σ) (.inl (some (.int (r).1)), (r).2) := by
  unfold fX7_proxy_J44 at hf
  refine go_n 1 (f := (45, [none, none, none, none, none, some (.int x5), none, some (.int x7)], [.int 0, .int s0, .int s1, .int s2, .int s3, .int s4, .int s5, .ref 60], σ)) rfl ?_
  exact fX7_proxy_J45_ok _ _ _ _ _ _ _ _ _  _  _ hf
def fX7_proxy (x1 : Int32) (x2 : Int32) (x3 : Int32) (x4 : Int32) (x5 : Int32) (x6 : Int32) (x7 : Int32) (σ : Sg) : Option (Int32 × Sg) :=
  (fX7_in x5.toInt64 0 3).bind fun q1 => if q1 = 0 then fX7_proxy_J44 x5 x7 x6 x4 x3 x2 x1 3  (wi σ 60 0 0) else (fX7_in x6.toInt64 0 1000).bind fun q6 => ((fun (z9 : Int32) => (fX7_tell 3 x1 x2 x3 x4 x6 z9 x7 x5 (wi σ 60 0 0)).bind fun q10 => some (q10.1, q10.2)) ((if q6 = 0 then 0 else 1) : Int32))
set_option maxHeartbeats 1500000 in
theorem fX7_proxy_ok (x1 : Int32) (x2 : Int32) (x3 : Int32) (x4 : Int32) (x5 : Int32) (x6 : Int32) (x7 : Int32) (σ : Sg) (r : (Int32 × Sg)) (hf : fX7_proxy x1 x2 x3 x4 x5 x6 x7 σ = some r) : Cl true 4 12062 [.ref 60, .int x1, .int x2, .int x3, .int x4, .int x5, .int x6, .int x7] σ (.inl (some (.int (r).1)), (r).2) := by
  refine ⟨iX7_proxy, rfl, Nat.le_of_ble_eq_true rfl, Nat.le_of_ble_eq_true rfl, ?_⟩
  show Go true 4 iX7_proxy (0, [some (.ref 60), some (.int x1), some (.int x2), some (.int x3), some (.int x4), some (.int x5), some (.int x6), some (.int x7)], [], σ) (.inl (some (.int (r).1)), (r).2)
  unfold fX7_proxy at hf
  refine go_n 10 (f := (14, [some (.ref 60), some (.int x1), some (.int x2), some (.int x3), some (.int x4), some (.int x5), some (.int x6), some (.int x7)], [.int x6, .int x4, .int x3, .int x2, .int x1, .int 3, .ref 60], (wi σ 60 0 0))) rfl ?_
  refine go_n 4 (f := (21, [some (.ref 60), some (.int x1), some (.int x2), some (.int x3), some (.int x4), some (.int x5), some (.int x6), some (.int x7)], [.long 3, .long 0, .long x5.toInt64, .int x6, .int x4, .int x3, .int x2, .int x1, .int 3, .ref 60], (wi σ 60 0 0))) rfl ?_
  obtain ⟨q1, h2, hf⟩ := bnd hf
  refine go_c (mid := 12034) (args := [.long x5.toInt64, .long 0, .long 3]) (pc := 24) (L := [some (.ref 60), some (.int x1), some (.int x2), some (.int x3), some (.int x4), some (.int x5), some (.int x6), some (.int x7)]) (st := [.int x6, .int x4, .int x3, .int x2, .int x1, .int 3, .ref 60]) (σ := (wi σ 60 0 0)) rfl ((fX7_in_ok _ _ _ _ q1 h2).deep (Nat.le_of_ble_eq_true rfl)) ?_
  by_cases h3 : q1 = 0
  · rw [if_pos h3] at hf
    refine go_it (t := 44) (f := 27) (L1 := [some (.ref 60), some (.int x1), some (.int x2), some (.int x3), some (.int x4), some (.int x5), some (.int x6), some (.int x7)]) (st1 := [.int x6, .int x4, .int x3, .int x2, .int x1, .int 3, .ref 60]) (σ1 := (wi σ 60 0 0)) rfl h3 ?_
    refine go_e (L1 := [none, none, none, none, none, some (.int x5), none, some (.int x7)]) rfl rfl ?_
    exact fX7_proxy_J44_ok _ _ _ _ _ _ _ _  _  _ hf
  · rw [if_neg h3] at hf
    refine go_if (t := 44) (f := 27) (L1 := [some (.ref 60), some (.int x1), some (.int x2), some (.int x3), some (.int x4), some (.int x5), some (.int x6), some (.int x7)]) (st1 := [.int x6, .int x4, .int x3, .int x2, .int x1, .int 3, .ref 60]) (σ1 := (wi σ 60 0 0)) rfl h3 ?_
    refine go_n 4 (f := (34, [some (.ref 60), some (.int x1), some (.int x2), some (.int x3), some (.int x4), some (.int x5), some (.int x6), some (.int x7)], [.long 1000, .long 0, .long x6.toInt64, .int x6, .int x4, .int x3, .int x2, .int x1, .int 3, .ref 60], (wi σ 60 0 0))) rfl ?_
    obtain ⟨q6, h7, hf⟩ := bnd hf
    refine go_c (mid := 12034) (args := [.long x6.toInt64, .long 0, .long 1000]) (pc := 37) (L := [some (.ref 60), some (.int x1), some (.int x2), some (.int x3), some (.int x4), some (.int x5), some (.int x6), some (.int x7)]) (st := [.int x6, .int x4, .int x3, .int x2, .int x1, .int 3, .ref 60]) (σ := (wi σ 60 0 0)) rfl ((fX7_in_ok _ _ _ _ q6 h7).deep (Nat.le_of_ble_eq_true rfl)) ?_
    refine go_m (f := (45, [none, none, none, none, none, some (.int x5), none, some (.int x7)], [.int ((if q6 = 0 then 0 else 1) : Int32), .int x6, .int x4, .int x3, .int x2, .int x1, .int 3, .ref 60], (wi σ 60 0 0))) ?_ (fun hJ12 => ?_)
    · generalize hz9 : ((if q6 = 0 then 0 else 1) : Int32) = z9 at hf ⊢
      have oz9 : am_ok 3 z9 = true := hz9 ▸ (okb rfl rfl)
      try dsimp only at hf
      refine go_n 2 (f := (49, [none, none, none, none, none, some (.int x5), none, some (.int x7)], [.int x5, .int x7, .int z9, .int x6, .int x4, .int x3, .int x2, .int x1, .int 3, .ref 60], (wi σ 60 0 0))) rfl ?_
      obtain ⟨q10, h11, hf⟩ := bnd hf
      refine go_c (mid := 12056) (args := [.ref 60, .int 3, .int x1, .int x2, .int x3, .int x4, .int x6, .int z9, .int x7, .int x5]) (pc := 52) (L := [none, none, none, none, none, some (.int x5), none, some (.int x7)]) (st := []) (σ := (wi σ 60 0 0)) rfl ((fX7_tell_ok _ _ _ _ _ _ _ _ _ _ q10 h11).deep (Nat.le_of_ble_eq_true rfl)) ?_
      cases hf
      exact go_r rfl
    · by_cases h8 : q6 = 0
      · refine go_it (t := 44) (f := 40) (L1 := [some (.ref 60), some (.int x1), some (.int x2), some (.int x3), some (.int x4), some (.int x5), some (.int x6), some (.int x7)]) (st1 := [.int x6, .int x4, .int x3, .int x2, .int x1, .int 3, .ref 60]) (σ1 := (wi σ 60 0 0)) rfl h8 ?_
        refine go_e (L1 := [none, none, none, none, none, some (.int x5), none, some (.int x7)]) rfl rfl ?_
        refine go_n 1 (f := (45, [none, none, none, none, none, some (.int x5), none, some (.int x7)], [.int 0, .int x6, .int x4, .int x3, .int x2, .int x1, .int 3, .ref 60], (wi σ 60 0 0))) rfl ?_
        refine go_e (L1 := [none, none, none, none, none, some (.int x5), none, some (.int x7)]) rfl rfl ?_
        simp only [if_pos h8] at hJ12
        first | exact hJ12 | (simp only [if_pos h8]; exact hJ12)
      · refine go_if (t := 44) (f := 40) (L1 := [some (.ref 60), some (.int x1), some (.int x2), some (.int x3), some (.int x4), some (.int x5), some (.int x6), some (.int x7)]) (st1 := [.int x6, .int x4, .int x3, .int x2, .int x1, .int 3, .ref 60]) (σ1 := (wi σ 60 0 0)) rfl h8 ?_
        refine go_n 2 (f := (45, [some (.ref 60), some (.int x1), some (.int x2), some (.int x3), some (.int x4), some (.int x5), some (.int x6), some (.int x7)], [.int 1, .int x6, .int x4, .int x3, .int x2, .int x1, .int 3, .ref 60], (wi σ 60 0 0))) rfl ?_
        refine go_e (L1 := [none, none, none, none, none, some (.int x5), none, some (.int x7)]) rfl rfl ?_
        simp only [if_neg h8] at hJ12
        first | exact hJ12 | (simp only [if_neg h8]; exact hJ12)
/-! OldWeatherModel.copy(IIIIII)I -/
def fX7_copy (x1 : Int32) (x2 : Int32) (x3 : Int32) (x4 : Int32) (x5 : Int32) (x6 : Int32) (σ : Sg) : Option (Int32 × Sg) :=
  (fX7_tell 4 x1 x2 x3 x4 0 1 x6 x5 (wi σ 60 0 0)).bind fun q1 => some (q1.1, q1.2)
set_option maxHeartbeats 1500000 in
theorem fX7_copy_ok (x1 : Int32) (x2 : Int32) (x3 : Int32) (x4 : Int32) (x5 : Int32) (x6 : Int32) (σ : Sg) (r : (Int32 × Sg)) (hf : fX7_copy x1 x2 x3 x4 x5 x6 σ = some r) : Cl true 4 12063 [.ref 60, .int x1, .int x2, .int x3, .int x4, .int x5, .int x6] σ (.inl (some (.int (r).1)), (r).2) := by
  refine ⟨iX7_copy, rfl, Nat.le_of_ble_eq_true rfl, Nat.le_of_ble_eq_true rfl, ?_⟩
  show Go true 4 iX7_copy (0, [some (.ref 60), some (.int x1), some (.int x2), some (.int x3), some (.int x4), some (.int x5), some (.int x6)], [], σ) (.inl (some (.int (r).1)), (r).2)
  unfold fX7_copy at hf
  refine go_n 10 (f := (13, [some (.ref 60), some (.int x1), some (.int x2), some (.int x3), some (.int x4), some (.int x5), some (.int x6)], [.int 0, .int x4, .int x3, .int x2, .int x1, .int 4, .ref 60], (wi σ 60 0 0))) rfl ?_
  refine go_n 3 (f := (18, [some (.ref 60), some (.int x1), some (.int x2), some (.int x3), some (.int x4), some (.int x5), some (.int x6)], [.int x5, .int x6, .int 1, .int 0, .int x4, .int x3, .int x2, .int x1, .int 4, .ref 60], (wi σ 60 0 0))) rfl ?_
  obtain ⟨q1, h2, hf⟩ := bnd hf
  refine go_c (mid := 12056) (args := [.ref 60, .int 4, .int x1, .int x2, .int x3, .int x4, .int 0, .int 1, .int x6, .int x5]) (pc := 21) (L := [some (.ref 60), some (.int x1), some (.int x2), some (.int x3), some (.int x4), some (.int x5), some (.int x6)]) (st := []) (σ := (wi σ 60 0 0)) rfl ((fX7_tell_ok _ _ _ _ _ _ _ _ _ _ q1 h2).deep (Nat.le_of_ble_eq_true rfl)) ?_
  cases hf
  exact go_r rfl
/-! OldWeatherModel.findDays(I)V -/
def fX7_findDays_J201 (x1 : Int32) (x2 : Int32) (x3 : Int32) (rec36 : (Int32 × Sg) → Option Sg) (σ : Sg) : Option Sg :=
  rec36 ((x3 + (-1)), σ)
set_option maxHeartbeats 1500000 in
theorem fX7_findDays_J201_ok (x1 : Int32) (x2 : Int32) (x3 : Int32) (rec36 : (Int32 × Sg) → Option Sg) (σ : Sg) (hrec36 : ∀ (y3 : Int32) (τ : Sg) (r : Sg), rec36 (y3, τ) = some r → Go true 3 iX7_findDays (36, [some (.ref 60), some (.int x1), some (.int x2), some (.int y3), none, none], [], τ) (.inl none, r)) (r : Sg) (hf : fX7_findDays_J201 x1 x2 x3 rec36 σ = some r) : Go true 3 iX7_findDays (201, [some (.ref 60), some (.int x1), some (.int x2), some (.int x3), none, none], [], σ) (.inl none, r) := by
  unfold fX7_findDays_J201 at hf
  refine go_n 2 (f := (36, [some (.ref 60), some (.int x1), some (.int x2), some (.int (x3 + (-1))), none, none], [], σ)) rfl ?_
  exact hrec36 _ _ _ hf
def fX7_findDays_J150 (x1 : Int32) (x2 : Int32) (x3 : Int32) (x4 : Int32) (rec36 : (Int32 × Sg) → Option Sg) (σ : Sg) : Option Sg :=
  ((fun (z33 : Int32) => ((fun (z35 : Int32) => fX7_findDays_J201 x1 x2 x3 rec36 (wi (wi (wi σ 60 10 z33) 60 9 z35) 60 8 ((gi σ 60 8) + 1))) (if (gi σ 60 8) ≠ 0 then (gi σ 60 9) else x4))) (if (gi σ 60 8) ≠ 1 then (gi σ 60 10) else x4))
set_option maxHeartbeats 1500000 in
theorem fX7_findDays_J150_ok (x1 : Int32) (x2 : Int32) (x3 : Int32) (x4 : Int32) (rec36 : (Int32 × Sg) → Option Sg) (σ : Sg) (hrec36 : ∀ (y3 : Int32) (τ : Sg) (r : Sg), rec36 (y3, τ) = some r → Go true 3 iX7_findDays (36, [some (.ref 60), some (.int x1), some (.int x2), some (.int y3), none, none], [], τ) (.inl none, r)) (r : Sg) (hf : fX7_findDays_J150 x1 x2 x3 x4 rec36 σ = some r) : Go true 3 iX7_findDays (150, [some (.ref 60), some (.int x1), some (.int x2), some (.int x3), some (.int x4), none], [], σ) (.inl none, r) := by
  unfold fX7_findDays_J150 at hf
  refine go_n 4 (f := (156, [some (.ref 60), some (.int x1), some (.int x2), some (.int x3), some (.int x4), none], [.int 1, .int (gi σ 60 8), .ref 60], σ)) rfl ?_
  refine go_m (f := (168, [some (.ref 60), some (.int x1), some (.int x2), some (.int x3), some (.int x4), none], [.int (if (gi σ 60 8) ≠ 1 then (gi σ 60 10) else x4), .ref 60], σ)) ?_ (fun hJ37 => ?_)
  · generalize hz33 : (if (gi σ 60 8) ≠ 1 then (gi σ 60 10) else x4) = z33 at hf ⊢
    try dsimp only at hf
    refine go_n 4 (f := (176, [some (.ref 60), some (.int x1), some (.int x2), some (.int x3), some (.int x4), none], [.int (gi σ 60 8), .ref 60], (wi σ 60 10 z33))) rfl ?_
    refine go_m (f := (188, [some (.ref 60), some (.int x1), some (.int x2), some (.int x3), none, none], [.int (if (gi σ 60 8) ≠ 0 then (gi σ 60 9) else x4), .ref 60], (wi σ 60 10 z33))) ?_ (fun hJ36 => ?_)
    · generalize hz35 : (if (gi σ 60 8) ≠ 0 then (gi σ 60 9) else x4) = z35 at hf ⊢
      try dsimp only at hf
      refine go_n 7 (f := (201, [some (.ref 60), some (.int x1), some (.int x2), some (.int x3), none, none], [], (wi (wi (wi σ 60 10 z33) 60 9 z35) 60 8 ((gi σ 60 8) + 1)))) rfl ?_
      exact fX7_findDays_J201_ok _ _ _ _ _ hrec36 _ hf
    · by_cases h34 : (gi σ 60 8) ≠ 0
      · refine go_it (t := 184) (f := 179) (L1 := [some (.ref 60), some (.int x1), some (.int x2), some (.int x3), some (.int x4), none]) (st1 := [.ref 60]) (σ1 := (wi σ 60 10 z33)) rfl h34 ?_
        refine go_n 2 (f := (188, [some (.ref 60), some (.int x1), some (.int x2), some (.int x3), some (.int x4), none], [.int (gi σ 60 9), .ref 60], (wi σ 60 10 z33))) rfl ?_
        refine go_e (L1 := [some (.ref 60), some (.int x1), some (.int x2), some (.int x3), none, none]) rfl rfl ?_
        simp only [if_pos h34] at hJ36
        first | exact hJ36 | (simp only [if_pos h34]; exact hJ36)
      · refine go_if (t := 184) (f := 179) (L1 := [some (.ref 60), some (.int x1), some (.int x2), some (.int x3), some (.int x4), none]) (st1 := [.ref 60]) (σ1 := (wi σ 60 10 z33)) rfl h34 ?_
        refine go_n 2 (f := (188, [some (.ref 60), some (.int x1), some (.int x2), some (.int x3), some (.int x4), none], [.int x4, .ref 60], (wi σ 60 10 z33))) rfl ?_
        refine go_e (L1 := [some (.ref 60), some (.int x1), some (.int x2), some (.int x3), none, none]) rfl rfl ?_
        simp only [if_neg h34] at hJ36
        first | exact hJ36 | (simp only [if_neg h34]; exact hJ36)
  · by_cases h32 : (gi σ 60 8) ≠ 1
    · refine go_it (t := 164) (f := 159) (L1 := [some (.ref 60), some (.int x1), some (.int x2), some (.int x3), some (.int x4), none]) (st1 := [.ref 60]) (σ1 := σ) rfl h32 ?_
      refine go_n 2 (f := (168, [some (.ref 60), some (.int x1), some (.int x2), some (.int x3), some (.int x4), none], [.int (gi σ 60 10), .ref 60], σ)) rfl ?_
      refine go_e (L1 := [some (.ref 60), some (.int x1), some (.int x2), some (.int x3), some (.int x4), none]) rfl rfl ?_
      simp only [if_pos h32] at hJ37
      first | exact hJ37 | (simp only [if_pos h32]; exact hJ37)
    · refine go_if (t := 164) (f := 159) (L1 := [some (.ref 60), some (.int x1), some (.int x2), some (.int x3), some (.int x4), none]) (st1 := [.ref 60]) (σ1 := σ) rfl h32 ?_
      refine go_n 2 (f := (168, [some (.ref 60), some (.int x1), some (.int x2), some (.int x3), some (.int x4), none], [.int x4, .ref 60], σ)) rfl ?_
      refine go_e (L1 := [some (.ref 60), some (.int x1), some (.int x2), some (.int x3), some (.int x4), none]) rfl rfl ?_
      simp only [if_neg h32] at hJ37
      first | exact hJ37 | (simp only [if_neg h32]; exact hJ37)
def fX7_findDays_L36 (x1 : Int32) (x2 : Int32)  (rec36 : (Int32 × Sg) → Option Sg) (s : Int32 × Sg) : Option Sg :=
  match s with
  | (x3, σ) => if x3 < 0 then some σ else (fX7_get x1 2 σ).bind fun q5 => (fX7_get x1 3 σ).bind fun q7 => (fX7_get x1 4 σ).bind fun q9 => (fX7_isDate q5 q7 q9 x3).bind fun q11 => if q11 = 0 then fX7_findDays_J201 x1 x2 x3 rec36 σ else (fX7_get x1 2 σ).bind fun q14 => (fX7_get x1 3 σ).bind fun q16 => (fX7_get x1 4 σ).bind fun q18 => (fX7_dayOf q14 q16 q18 x3).bind fun q20 => ((fun (z26 : Int32) => if z26 = 0 then fX7_findDays_J201 x1 x2 x3 rec36 σ else (fX7_isDay q20).bind fun q28 => if q28 = 0 then fX7_findDays_J201 x1 x2 x3 rec36 σ else if (gi σ 60 8) = 0 then fX7_findDays_J150 x1 x2 x3 q20 rec36 σ else if q20 = (gi σ 60 9) then fX7_findDays_J201 x1 x2 x3 rec36 σ else fX7_findDays_J150 x1 x2 x3 q20 rec36 σ) ((if x2 = (-1) then 1 else (if x3 ≠ 1 then (if x2 ≤ q20 then 0 else 1) else (if q20 < x2 then 0 else 1))) : Int32))
set_option maxHeartbeats 1500000 in
theorem fX7_findDays_L36_ok (x1 : Int32) (x2 : Int32)   : ∀ (n : Nat) (x3 : Int32) (σ : Sg) (r : Sg), lp (fX7_findDays_L36 x1 x2 ) n (x3, σ) = some r → Go true 3 iX7_findDays (36, [some (.ref 60), some (.int x1), some (.int x2), some (.int x3), none, none], [], σ) (.inl none, r) := by
  intro n
  induction n with
  | zero => intro x3 σ r hf; cases hf
  | succ n ih =>
    intro x3 σ r hf
    have hf : fX7_findDays_L36 x1 x2  (lp (fX7_findDays_L36 x1 x2 ) n) (x3, σ) = some r := hf
    have hrec36 := ih
    generalize lp (fX7_findDays_L36 x1 x2 ) n = rec36 at hf hrec36
    unfold fX7_findDays_L36 at hf
    dsimp only at hf
    refine go_n 1 (f := (37, [some (.ref 60), some (.int x1), some (.int x2), some (.int x3), none, none], [.int x3], σ)) rfl ?_
    by_cases h4 : x3 < 0
    · rw [if_pos h4] at hf
      refine go_it (t := 207) (f := 40) (L1 := [some (.ref 60), some (.int x1), some (.int x2), some (.int x3), none, none]) (st1 := []) (σ1 := σ) rfl h4 ?_
      cases hf
      exact go_r rfl
    · rw [if_neg h4] at hf
      refine go_if (t := 207) (f := 40) (L1 := [some (.ref 60), some (.int x1), some (.int x2), some (.int x3), none, none]) (st1 := []) (σ1 := σ) rfl h4 ?_
      refine go_n 3 (f := (43, [some (.ref 60), some (.int x1), some (.int x2), some (.int x3), none, none], [.int 2, .int x1, .ref 60], σ)) rfl ?_
      obtain ⟨q5, h6, hf⟩ := bnd hf
      refine go_c (mid := 12067) (args := [.ref 60, .int x1, .int 2]) (pc := 46) (L := [some (.ref 60), some (.int x1), some (.int x2), some (.int x3), none, none]) (st := []) (σ := σ) rfl ((fX7_get_ok _ _ _ q5 h6).deep (Nat.le_of_ble_eq_true rfl)) ?_
      refine go_n 3 (f := (49, [some (.ref 60), some (.int x1), some (.int x2), some (.int x3), none, none], [.int 3, .int x1, .ref 60, .int q5], σ)) rfl ?_
      obtain ⟨q7, h8, hf⟩ := bnd hf
      refine go_c (mid := 12067) (args := [.ref 60, .int x1, .int 3]) (pc := 52) (L := [some (.ref 60), some (.int x1), some (.int x2), some (.int x3), none, none]) (st := [.int q5]) (σ := σ) rfl ((fX7_get_ok _ _ _ q7 h8).deep (Nat.le_of_ble_eq_true rfl)) ?_
      refine go_n 3 (f := (55, [some (.ref 60), some (.int x1), some (.int x2), some (.int x3), none, none], [.int 4, .int x1, .ref 60, .int q7, .int q5], σ)) rfl ?_
      obtain ⟨q9, h10, hf⟩ := bnd hf
      refine go_c (mid := 12067) (args := [.ref 60, .int x1, .int 4]) (pc := 58) (L := [some (.ref 60), some (.int x1), some (.int x2), some (.int x3), none, none]) (st := [.int q7, .int q5]) (σ := σ) rfl ((fX7_get_ok _ _ _ q9 h10).deep (Nat.le_of_ble_eq_true rfl)) ?_
      refine go_n 1 (f := (59, [some (.ref 60), some (.int x1), some (.int x2), some (.int x3), none, none], [.int x3, .int q9, .int q7, .int q5], σ)) rfl ?_
      obtain ⟨q11, h12, hf⟩ := bnd hf
      refine go_c (mid := 12038) (args := [.int q5, .int q7, .int q9, .int x3]) (pc := 62) (L := [some (.ref 60), some (.int x1), some (.int x2), some (.int x3), none, none]) (st := []) (σ := σ) rfl ((fX7_isDate_ok _ _ _ _ _ q11 h12).deep (Nat.le_of_ble_eq_true rfl)) ?_
      by_cases h13 : q11 = 0
      · rw [if_pos h13] at hf
        refine go_it (t := 201) (f := 65) (L1 := [some (.ref 60), some (.int x1), some (.int x2), some (.int x3), none, none]) (st1 := []) (σ1 := σ) rfl h13 ?_
        exact fX7_findDays_J201_ok _ _ _ _ _ hrec36 _ hf
      · rw [if_neg h13] at hf
        refine go_if (t := 201) (f := 65) (L1 := [some (.ref 60), some (.int x1), some (.int x2), some (.int x3), none, none]) (st1 := []) (σ1 := σ) rfl h13 ?_
        refine go_n 3 (f := (68, [some (.ref 60), some (.int x1), some (.int x2), some (.int x3), none, none], [.int 2, .int x1, .ref 60], σ)) rfl ?_
        obtain ⟨q14, h15, hf⟩ := bnd hf
        refine go_c (mid := 12067) (args := [.ref 60, .int x1, .int 2]) (pc := 71) (L := [some (.ref 60), some (.int x1), some (.int x2), some (.int x3), none, none]) (st := []) (σ := σ) rfl ((fX7_get_ok _ _ _ q14 h15).deep (Nat.le_of_ble_eq_true rfl)) ?_
        refine go_n 3 (f := (74, [some (.ref 60), some (.int x1), some (.int x2), some (.int x3), none, none], [.int 3, .int x1, .ref 60, .int q14], σ)) rfl ?_
        obtain ⟨q16, h17, hf⟩ := bnd hf
        refine go_c (mid := 12067) (args := [.ref 60, .int x1, .int 3]) (pc := 77) (L := [some (.ref 60), some (.int x1), some (.int x2), some (.int x3), none, none]) (st := [.int q14]) (σ := σ) rfl ((fX7_get_ok _ _ _ q16 h17).deep (Nat.le_of_ble_eq_true rfl)) ?_
        refine go_n 3 (f := (80, [some (.ref 60), some (.int x1), some (.int x2), some (.int x3), none, none], [.int 4, .int x1, .ref 60, .int q16, .int q14], σ)) rfl ?_
        obtain ⟨q18, h19, hf⟩ := bnd hf
        refine go_c (mid := 12067) (args := [.ref 60, .int x1, .int 4]) (pc := 83) (L := [some (.ref 60), some (.int x1), some (.int x2), some (.int x3), none, none]) (st := [.int q16, .int q14]) (σ := σ) rfl ((fX7_get_ok _ _ _ q18 h19).deep (Nat.le_of_ble_eq_true rfl)) ?_
        refine go_n 1 (f := (84, [some (.ref 60), some (.int x1), some (.int x2), some (.int x3), none, none], [.int x3, .int q18, .int q16, .int q14], σ)) rfl ?_
        obtain ⟨q20, h21, hf⟩ := bnd hf
        refine go_c (mid := 12041) (args := [.int q14, .int q16, .int q18, .int x3]) (pc := 87) (L := [some (.ref 60), some (.int x1), some (.int x2), some (.int x3), none, none]) (st := []) (σ := σ) rfl ((fX7_dayOf_ok _ _ _ _ _ q20 h21).deep (Nat.le_of_ble_eq_true rfl)) ?_
        refine go_n 3 (f := (91, [some (.ref 60), some (.int x1), some (.int x2), some (.int x3), some (.int q20), none], [.int (-1), .int x2], σ)) rfl ?_
        refine go_m (f := (119, [some (.ref 60), some (.int x1), some (.int x2), some (.int x3), some (.int q20), none], [.int ((if x2 = (-1) then 1 else (if x3 ≠ 1 then (if x2 ≤ q20 then 0 else 1) else (if q20 < x2 then 0 else 1))) : Int32)], σ)) ?_ (fun hJ39 => ?_)
        · generalize hz26 : ((if x2 = (-1) then 1 else (if x3 ≠ 1 then (if x2 ≤ q20 then 0 else 1) else (if q20 < x2 then 0 else 1))) : Int32) = z26 at hf ⊢
          have oz26 : am_ok 3 z26 = true := hz26 ▸ (okb rfl (okb (okb rfl rfl) (okb rfl rfl)))
          try dsimp only at hf
          refine go_n 2 (f := (123, [some (.ref 60), some (.int x1), some (.int x2), some (.int x3), some (.int q20), some (.int z26)], [.int z26], σ)) rfl ?_
          by_cases h27 : z26 = 0
          · rw [if_pos h27] at hf
            refine go_it (t := 201) (f := 126) (L1 := [some (.ref 60), some (.int x1), some (.int x2), some (.int x3), some (.int q20), some (.int z26)]) (st1 := []) (σ1 := σ) rfl h27 ?_
            refine go_e (L1 := [some (.ref 60), some (.int x1), some (.int x2), some (.int x3), none, none]) rfl rfl ?_
            exact fX7_findDays_J201_ok _ _ _ _ _ hrec36 _ hf
          · rw [if_neg h27] at hf
            refine go_if (t := 201) (f := 126) (L1 := [some (.ref 60), some (.int x1), some (.int x2), some (.int x3), some (.int q20), some (.int z26)]) (st1 := []) (σ1 := σ) rfl h27 ?_
            refine go_n 1 (f := (128, [some (.ref 60), some (.int x1), some (.int x2), some (.int x3), some (.int q20), some (.int z26)], [.int q20], σ)) rfl ?_
            obtain ⟨q28, h29, hf⟩ := bnd hf
            refine go_c (mid := 12042) (args := [.int q20]) (pc := 131) (L := [some (.ref 60), some (.int x1), some (.int x2), some (.int x3), some (.int q20), some (.int z26)]) (st := []) (σ := σ) rfl ((fX7_isDay_ok _ _ q28 h29).deep (Nat.le_of_ble_eq_true rfl)) ?_
            by_cases h30 : q28 = 0
            · rw [if_pos h30] at hf
              refine go_it (t := 201) (f := 134) (L1 := [some (.ref 60), some (.int x1), some (.int x2), some (.int x3), some (.int q20), some (.int z26)]) (st1 := []) (σ1 := σ) rfl h30 ?_
              refine go_e (L1 := [some (.ref 60), some (.int x1), some (.int x2), some (.int x3), none, none]) rfl rfl ?_
              exact fX7_findDays_J201_ok _ _ _ _ _ hrec36 _ hf
            · rw [if_neg h30] at hf
              refine go_if (t := 201) (f := 134) (L1 := [some (.ref 60), some (.int x1), some (.int x2), some (.int x3), some (.int q20), some (.int z26)]) (st1 := []) (σ1 := σ) rfl h30 ?_
              refine go_n 2 (f := (138, [some (.ref 60), some (.int x1), some (.int x2), some (.int x3), some (.int q20), some (.int z26)], [.int (gi σ 60 8)], σ)) rfl ?_
              by_cases h31 : (gi σ 60 8) = 0
              · rw [if_pos h31] at hf
                refine go_it (t := 150) (f := 141) (L1 := [some (.ref 60), some (.int x1), some (.int x2), some (.int x3), some (.int q20), some (.int z26)]) (st1 := []) (σ1 := σ) rfl h31 ?_
                refine go_e (L1 := [some (.ref 60), some (.int x1), some (.int x2), some (.int x3), some (.int q20), none]) rfl rfl ?_
                exact fX7_findDays_J150_ok _ _ _ _ _ _ hrec36 _ hf
              · rw [if_neg h31] at hf
                refine go_if (t := 150) (f := 141) (L1 := [some (.ref 60), some (.int x1), some (.int x2), some (.int x3), some (.int q20), some (.int z26)]) (st1 := []) (σ1 := σ) rfl h31 ?_
                refine go_n 3 (f := (147, [some (.ref 60), some (.int x1), some (.int x2), some (.int x3), some (.int q20), some (.int z26)], [.int (gi σ 60 9), .int q20], σ)) rfl ?_
                by_cases h38 : q20 = (gi σ 60 9)
                · rw [if_pos h38] at hf
                  refine go_it (t := 201) (f := 150) (L1 := [some (.ref 60), some (.int x1), some (.int x2), some (.int x3), some (.int q20), some (.int z26)]) (st1 := []) (σ1 := σ) rfl h38 ?_
                  refine go_e (L1 := [some (.ref 60), some (.int x1), some (.int x2), some (.int x3), none, none]) rfl rfl ?_
                  exact fX7_findDays_J201_ok _ _ _ _ _ hrec36 _ hf
                · rw [if_neg h38] at hf
                  refine go_if (t := 201) (f := 150) (L1 := [some (.ref 60), some (.int x1), some (.int x2), some (.int x3), some (.int q20), some (.int z26)]) (st1 := []) (σ1 := σ) rfl h38 ?_
                  refine go_e (L1 := [some (.ref 60), some (.int x1), some (.int x2), some (.int x3), some (.int q20), none]) rfl rfl ?_
                  exact fX7_findDays_J150_ok _ _ _ _ _ _ hrec36 _ hf
        · by_cases h22 : x2 = (-1)
          · refine go_it (t := 114) (f := 94) (L1 := [some (.ref 60), some (.int x1), some (.int x2), some (.int x3), some (.int q20), none]) (st1 := []) (σ1 := σ) rfl h22 ?_
            refine go_n 2 (f := (119, [some (.ref 60), some (.int x1), some (.int x2), some (.int x3), some (.int q20), none], [.int 1], σ)) rfl ?_
            refine go_e (L1 := [some (.ref 60), some (.int x1), some (.int x2), some (.int x3), some (.int q20), none]) rfl rfl ?_
            simp only [if_pos h22] at hJ39
            first | exact hJ39 | (simp only [if_pos h22]; exact hJ39)
          · refine go_if (t := 114) (f := 94) (L1 := [some (.ref 60), some (.int x1), some (.int x2), some (.int x3), some (.int q20), none]) (st1 := []) (σ1 := σ) rfl h22 ?_
            refine go_n 2 (f := (96, [some (.ref 60), some (.int x1), some (.int x2), some (.int x3), some (.int q20), none], [.int 1, .int x3], σ)) rfl ?_
            by_cases h23 : x3 ≠ 1
            · refine go_it (t := 108) (f := 99) (L1 := [some (.ref 60), some (.int x1), some (.int x2), some (.int x3), some (.int q20), none]) (st1 := []) (σ1 := σ) rfl h23 ?_
              refine go_n 2 (f := (111, [some (.ref 60), some (.int x1), some (.int x2), some (.int x3), some (.int q20), none], [.int x2, .int q20], σ)) rfl ?_
              by_cases h24 : x2 ≤ q20
              · refine go_it (t := 118) (f := 114) (L1 := [some (.ref 60), some (.int x1), some (.int x2), some (.int x3), some (.int q20), none]) (st1 := []) (σ1 := σ) rfl h24 ?_
                refine go_n 1 (f := (119, [some (.ref 60), some (.int x1), some (.int x2), some (.int x3), some (.int q20), none], [.int 0], σ)) rfl ?_
                refine go_e (L1 := [some (.ref 60), some (.int x1), some (.int x2), some (.int x3), some (.int q20), none]) rfl rfl ?_
                simp only [if_neg h22, if_pos h23, if_pos h24] at hJ39
                first | exact hJ39 | (simp only [if_neg h22, if_pos h23, if_pos h24]; exact hJ39)
              · refine go_if (t := 118) (f := 114) (L1 := [some (.ref 60), some (.int x1), some (.int x2), some (.int x3), some (.int q20), none]) (st1 := []) (σ1 := σ) rfl h24 ?_
                refine go_n 2 (f := (119, [some (.ref 60), some (.int x1), some (.int x2), some (.int x3), some (.int q20), none], [.int 1], σ)) rfl ?_
                refine go_e (L1 := [some (.ref 60), some (.int x1), some (.int x2), some (.int x3), some (.int q20), none]) rfl rfl ?_
                simp only [if_neg h22, if_pos h23, if_neg h24] at hJ39
                first | exact hJ39 | (simp only [if_neg h22, if_pos h23, if_neg h24]; exact hJ39)
            · refine go_if (t := 108) (f := 99) (L1 := [some (.ref 60), some (.int x1), some (.int x2), some (.int x3), some (.int q20), none]) (st1 := []) (σ1 := σ) rfl h23 ?_
              refine go_n 2 (f := (102, [some (.ref 60), some (.int x1), some (.int x2), some (.int x3), some (.int q20), none], [.int x2, .int q20], σ)) rfl ?_
              by_cases h25 : q20 < x2
              · refine go_it (t := 118) (f := 105) (L1 := [some (.ref 60), some (.int x1), some (.int x2), some (.int x3), some (.int q20), none]) (st1 := []) (σ1 := σ) rfl h25 ?_
                refine go_n 1 (f := (119, [some (.ref 60), some (.int x1), some (.int x2), some (.int x3), some (.int q20), none], [.int 0], σ)) rfl ?_
                refine go_e (L1 := [some (.ref 60), some (.int x1), some (.int x2), some (.int x3), some (.int q20), none]) rfl rfl ?_
                simp only [if_neg h22, if_neg h23, if_pos h25] at hJ39
                first | exact hJ39 | (simp only [if_neg h22, if_neg h23, if_pos h25]; exact hJ39)
              · refine go_if (t := 118) (f := 105) (L1 := [some (.ref 60), some (.int x1), some (.int x2), some (.int x3), some (.int q20), none]) (st1 := []) (σ1 := σ) rfl h25 ?_
                refine go_n 3 (f := (119, [some (.ref 60), some (.int x1), some (.int x2), some (.int x3), some (.int q20), none], [.int 1], σ)) rfl ?_
                refine go_e (L1 := [some (.ref 60), some (.int x1), some (.int x2), some (.int x3), some (.int q20), none]) rfl rfl ?_
                simp only [if_neg h22, if_neg h23, if_neg h25] at hJ39
                first | exact hJ39 | (simp only [if_neg h22, if_neg h23, if_neg h25]; exact hJ39)
def fX7_findDays (x1 : Int32) (σ : Sg) : Option Sg :=
  (fX7_sourceOf x1 (wi (wi (wi σ 60 8 0) 60 9 (-1)) 60 10 (-1))).bind fun q1 => if inb ((464 + (4 * q1)) + 2) 39698 then lp (fX7_findDays_L36 x1 (gi σ 61 ((464 + (4 * q1)) + 2).toNatClampNeg) ) N0 (1, (wi (wi (wi σ 60 8 0) 60 9 (-1)) 60 10 (-1))) else none
set_option maxHeartbeats 1500000 in
theorem fX7_findDays_ok (x1 : Int32) (σ : Sg) (r : Sg) (hf : fX7_findDays x1 σ = some r) : Cl true 3 12065 [.ref 60, .int x1] σ (.inl none, r) := by
  refine ⟨iX7_findDays, rfl, Nat.le_of_ble_eq_true rfl, Nat.le_of_ble_eq_true rfl, ?_⟩
  show Go true 3 iX7_findDays (0, [some (.ref 60), some (.int x1), none, none, none, none], [], σ) (.inl none, r)
  unfold fX7_findDays at hf
  refine go_n 6 (f := (10, [some (.ref 60), some (.int x1), none, none, none, none], [], (wi (wi σ 60 8 0) 60 9 (-1)))) rfl ?_
  refine go_n 9 (f := (25, [some (.ref 60), some (.int x1), none, none, none, none], [.int x1, .ref 60, .int 4, .int 464, .ref 61], (wi (wi (wi σ 60 8 0) 60 9 (-1)) 60 10 (-1)))) rfl ?_
  obtain ⟨q1, h2, hf⟩ := bnd hf
  refine go_c (mid := 12066) (args := [.ref 60, .int x1]) (pc := 28) (L := [some (.ref 60), some (.int x1), none, none, none, none]) (st := [.int 4, .int 464, .ref 61]) (σ := (wi (wi (wi σ 60 8 0) 60 9 (-1)) 60 10 (-1))) rfl ((fX7_sourceOf_ok _ _ q1 h2).deep (Nat.le_of_ble_eq_true rfl)) ?_
  refine go_n 4 (f := (32, [some (.ref 60), some (.int x1), none, none, none, none], [.int ((464 + (4 * q1)) + 2), .ref 61], (wi (wi (wi σ 60 8 0) 60 9 (-1)) 60 10 (-1)))) rfl ?_
  obtain ⟨h3, hf⟩ := grd hf
  refine go_iald rfl rfl rfl h3 ?_
  refine go_n 3 (f := (36, [some (.ref 60), some (.int x1), some (.int (gi σ 61 ((464 + (4 * q1)) + 2).toNatClampNeg)), some (.int 1), none, none], [], (wi (wi (wi σ 60 8 0) 60 9 (-1)) 60 10 (-1)))) rfl ?_
  exact fX7_findDays_L36_ok _ _   N0 _ _ _ hf
/-! OldWeatherModel.row(IIIIII)I -/
def fX7_row_J47   (σ : Sg) : Option (Int32 × Sg) :=
  (fX7_told (-1) σ).bind fun q4 => some (q4.1, q4.2)
set_option maxHeartbeats 1500000 in
theorem fX7_row_J47_ok   (σ : Sg)  (r : (Int32 × Sg)) (hf : fX7_row_J47   σ = some r) : Go true 3 iX7_row (47, [some (.ref 60), none, none, none, none, none, none, none, none, none, none, none], [], σ) (.inl (some (.int (r).1)), (r).2) := by
  unfold fX7_row_J47 at hf
  refine go_n 2 (f := (49, [some (.ref 60), none, none, none, none, none, none, none, none, none, none, none], [.int (-1), .ref 60], σ)) rfl ?_
  obtain ⟨q4, h5, hf⟩ := bnd hf
  refine go_c (mid := 12035) (args := [.ref 60, .int (-1)]) (pc := 52) (L := [some (.ref 60), none, none, none, none, none, none, none, none, none, none, none]) (st := []) (σ := σ) rfl ((fX7_told_ok _ _ q4 h5).deep (Nat.le_of_ble_eq_true rfl)) ?_
  cases hf
  exact go_r rfl
def fX7_row_J274 (x8 : Int32)  (σ : Sg) : Option (Int32 × Sg) :=
  (fX7_told x8 σ).bind fun q19 => some (q19.1, q19.2)
set_option maxHeartbeats 1500000 in
theorem fX7_row_J274_ok (x8 : Int32)  (σ : Sg)  (r : (Int32 × Sg)) (hf : fX7_row_J274 x8  σ = some r) : Go true 3 iX7_row (274, [some (.ref 60), none, none, none, none, none, none, none, some (.int x8), none, none, none], [], σ) (.inl (some (.int (r).1)), (r).2) := by
  unfold fX7_row_J274 at hf
  refine go_n 2 (f := (277, [some (.ref 60), none, none, none, none, none, none, none, some (.int x8), none, none, none], [.int x8, .ref 60], σ)) rfl ?_
  obtain ⟨q19, h20, hf⟩ := bnd hf
  refine go_c (mid := 12035) (args := [.ref 60, .int x8]) (pc := 280) (L := [some (.ref 60), none, none, none, none, none, none, none, some (.int x8), none, none, none]) (st := []) (σ := σ) rfl ((fX7_told_ok _ _ q19 h20).deep (Nat.le_of_ble_eq_true rfl)) ?_
  cases hf
  exact go_r rfl
def fX7_row_J226 (x1 : Int32) (x5 : Int32) (x7 : Int32) (x8 : Int32) (x9 : Int32)  (σ : Sg) : Option (Int32 × Sg) :=
  if x7 ≤ x9 then fX7_row_J274 x8  σ else if 1902 ≤ (gi σ 60 5) then fX7_row_J274 x8  σ else (fX7_dayOf (gi σ 60 5) (gi σ 60 6) (gi σ 60 7) x5).bind fun q22 => if inb ((464 + (4 * x1)) + 3) 39698 then fX7_row_J274 x8  (wi σ 61 ((464 + (4 * x1)) + 3).toNatClampNeg q22) else none
set_option maxHeartbeats 1500000 in
theorem fX7_row_J226_ok (x1 : Int32) (x5 : Int32) (x7 : Int32) (x8 : Int32) (x9 : Int32)  (σ : Sg)  (r : (Int32 × Sg)) (hf : fX7_row_J226 x1 x5 x7 x8 x9  σ = some r) : Go true 3 iX7_row (226, [some (.ref 60), some (.int x1), none, none, none, some (.int x5), none, some (.int x7), some (.int x8), some (.int x9), none, none], [], σ) (.inl (some (.int (r).1)), (r).2) := by
  unfold fX7_row_J226 at hf
  refine go_n 2 (f := (230, [some (.ref 60), some (.int x1), none, none, none, some (.int x5), none, some (.int x7), some (.int x8), some (.int x9), none, none], [.int x7, .int x9], σ)) rfl ?_
  by_cases h18 : x7 ≤ x9
  · rw [if_pos h18] at hf
    refine go_it (t := 274) (f := 233) (L1 := [some (.ref 60), some (.int x1), none, none, none, some (.int x5), none, some (.int x7), some (.int x8), some (.int x9), none, none]) (st1 := []) (σ1 := σ) rfl h18 ?_
    refine go_e (L1 := [some (.ref 60), none, none, none, none, none, none, none, some (.int x8), none, none, none]) rfl rfl ?_
    exact fX7_row_J274_ok _  _  _ hf
  · rw [if_neg h18] at hf
    refine go_if (t := 274) (f := 233) (L1 := [some (.ref 60), some (.int x1), none, none, none, some (.int x5), none, some (.int x7), some (.int x8), some (.int x9), none, none]) (st1 := []) (σ1 := σ) rfl h18 ?_
    refine go_n 3 (f := (240, [some (.ref 60), some (.int x1), none, none, none, some (.int x5), none, some (.int x7), some (.int x8), some (.int x9), none, none], [.int 1902, .int (gi σ 60 5)], σ)) rfl ?_
    by_cases h21 : 1902 ≤ (gi σ 60 5)
    · rw [if_pos h21] at hf
      refine go_it (t := 274) (f := 243) (L1 := [some (.ref 60), some (.int x1), none, none, none, some (.int x5), none, some (.int x7), some (.int x8), some (.int x9), none, none]) (st1 := []) (σ1 := σ) rfl h21 ?_
      refine go_e (L1 := [some (.ref 60), none, none, none, none, none, none, none, some (.int x8), none, none, none]) rfl rfl ?_
      exact fX7_row_J274_ok _  _  _ hf
    · rw [if_neg h21] at hf
      refine go_if (t := 274) (f := 243) (L1 := [some (.ref 60), some (.int x1), none, none, none, some (.int x5), none, some (.int x7), some (.int x8), some (.int x9), none, none]) (st1 := []) (σ1 := σ) rfl h21 ?_
      refine go_n 10 (f := (257, [some (.ref 60), some (.int x1), none, none, none, some (.int x5), none, some (.int x7), some (.int x8), some (.int x9), none, none], [.ref 60, .int ((464 + (4 * x1)) + 3), .ref 61], σ)) rfl ?_
      refine go_n 6 (f := (270, [some (.ref 60), some (.int x1), none, none, none, some (.int x5), none, some (.int x7), some (.int x8), some (.int x9), none, none], [.int x5, .int (gi σ 60 7), .int (gi σ 60 6), .int (gi σ 60 5), .int ((464 + (4 * x1)) + 3), .ref 61], σ)) rfl ?_
      obtain ⟨q22, h23, hf⟩ := bnd hf
      refine go_c (mid := 12041) (args := [.int (gi σ 60 5), .int (gi σ 60 6), .int (gi σ 60 7), .int x5]) (pc := 273) (L := [some (.ref 60), some (.int x1), none, none, none, some (.int x5), none, some (.int x7), some (.int x8), some (.int x9), none, none]) (st := [.int ((464 + (4 * x1)) + 3), .ref 61]) (σ := σ) rfl ((fX7_dayOf_ok _ _ _ _ _ q22 h23).deep (Nat.le_of_ble_eq_true rfl)) ?_
      obtain ⟨h24, hf⟩ := grd hf
      refine go_iast rfl rfl rfl h24 ?_
      refine go_e (L1 := [some (.ref 60), none, none, none, none, none, none, none, some (.int x8), none, none, none]) rfl rfl ?_
      exact fX7_row_J274_ok _  _  _ hf
def fX7_row_J208 (x1 : Int32) (x5 : Int32) (x6 : Int32) (x7 : Int32) (x8 : Int32) (x9 : Int32) (x10 : Int32) (rec129 : (Int32 × Int32 × Sg) → Option (Int32 × Sg)) (rec152 : (Int32 × Int32 × Sg) → Option (Int32 × Sg)) (σ : Sg) : Option (Int32 × Sg) :=
  rec152 (x8, (x10 + 1), σ)
set_option maxHeartbeats 1500000 in
theorem fX7_row_J208_ok (x1 : Int32) (x5 : Int32) (x6 : Int32) (x7 : Int32) (x8 : Int32) (x9 : Int32) (x10 : Int32) (rec129 : (Int32 × Int32 × Sg) → Option (Int32 × Sg)) (rec152 : (Int32 × Int32 × Sg) → Option (Int32 × Sg)) (σ : Sg) (hrec129 : ∀ (y8 : Int32) (y9 : Int32) (τ : Sg) (r : (Int32 × Sg)), rec129 (y8, y9, τ) = some r → Go true 3 iX7_row (129, [some (.ref 60), some (.int x1), none, none, none, some (.int x5), some (.int x6), some (.int x7), some (.int y8), some (.int y9), none, none], [], τ) (.inl (some (.int (r).1)), (r).2)) (hrec152 : ∀ (y8 : Int32) (y10 : Int32) (τ : Sg) (r : (Int32 × Sg)), rec152 (y8, y10, τ) = some r → Go true 3 iX7_row (152, [some (.ref 60), some (.int x1), none, none, none, some (.int x5), some (.int x6), some (.int x7), some (.int y8), some (.int x9), some (.int y10), none], [], τ) (.inl (some (.int (r).1)), (r).2)) (r : (Int32 × Sg)) (hf : fX7_row_J208 x1 x5 x6 x7 x8 x9 x10 rec129 rec152 σ = some r) : Go true 3 iX7_row (208, [some (.ref 60), some (.int x1), none, none, none, some (.int x5), some (.int x6), some (.int x7), some (.int x8), some (.int x9), some (.int x10), none], [], σ) (.inl (some (.int (r).1)), (r).2) := by
  unfold fX7_row_J208 at hf
  refine go_n 2 (f := (152, [some (.ref 60), some (.int x1), none, none, none, some (.int x5), some (.int x6), some (.int x7), some (.int x8), some (.int x9), some (.int (x10 + 1)), none], [], σ)) rfl ?_
  exact hrec152 _ _ _ _ hf
def fX7_row_L152 (x1 : Int32) (x5 : Int32) (x6 : Int32) (x7 : Int32) (x9 : Int32) (rec129 : (Int32 × Int32 × Sg) → Option (Int32 × Sg)) (rec152 : (Int32 × Int32 × Sg) → Option (Int32 × Sg)) (s : Int32 × Int32 × Sg) : Option (Int32 × Sg) :=
  match s with
  | (x8, x10, σ) => if 2 ≤ x10 then (fX7_dayOn x5 σ).bind fun q27 => rec129 (x8, (x9 + 8), q27) else (fX7_bitsAt (x9 + (4 * x10)) σ).bind fun q29 => (fX7_degreesOf q29).bind fun q31 => if q31 = (-100000) then fX7_row_J208 x1 x5 x6 x7 x8 x9 x10 rec129 rec152 σ else (fX7_keep 1 x1 (gi σ 60 5) (gi σ 60 6) (gi σ 60 7) q31 x6 0 σ).bind fun q34 => fX7_row_J208 x1 x5 x6 x7 (x8 + 1) x9 x10 rec129 rec152 q34.2
set_option maxHeartbeats 1500000 in
theorem fX7_row_L152_ok (x1 : Int32) (x5 : Int32) (x6 : Int32) (x7 : Int32) (x9 : Int32) (rec129 : (Int32 × Int32 × Sg) → Option (Int32 × Sg)) (hrec129 : ∀ (y8 : Int32) (y9 : Int32) (τ : Sg) (r : (Int32 × Sg)), rec129 (y8, y9, τ) = some r → Go true 3 iX7_row (129, [some (.ref 60), some (.int x1), none, none, none, some (.int x5), some (.int x6), some (.int x7), some (.int y8), some (.int y9), none, none], [], τ) (.inl (some (.int (r).1)), (r).2)) : ∀ (n : Nat) (x8 : Int32) (x10 : Int32) (σ : Sg) (r : (Int32 × Sg)), lp (fX7_row_L152 x1 x5 x6 x7 x9 rec129) n (x8, x10, σ) = some r → Go true 3 iX7_row (152, [some (.ref 60), some (.int x1), none, none, none, some (.int x5), some (.int x6), some (.int x7), some (.int x8), some (.int x9), some (.int x10), none], [], σ) (.inl (some (.int (r).1)), (r).2) := by
  intro n
  induction n with
  | zero => intro x8 x10 σ r hf; cases hf
  | succ n ih =>
    intro x8 x10 σ r hf
    have hf : fX7_row_L152 x1 x5 x6 x7 x9 rec129 (lp (fX7_row_L152 x1 x5 x6 x7 x9 rec129) n) (x8, x10, σ) = some r := hf
    have hrec152 := ih
    generalize lp (fX7_row_L152 x1 x5 x6 x7 x9 rec129) n = rec152 at hf hrec152
    unfold fX7_row_L152 at hf
    dsimp only at hf
    refine go_n 2 (f := (155, [some (.ref 60), some (.int x1), none, none, none, some (.int x5), some (.int x6), some (.int x7), some (.int x8), some (.int x9), some (.int x10), none], [.int 2, .int x10], σ)) rfl ?_
    by_cases h26 : 2 ≤ x10
    · rw [if_pos h26] at hf
      refine go_it (t := 214) (f := 158) (L1 := [some (.ref 60), some (.int x1), none, none, none, some (.int x5), some (.int x6), some (.int x7), some (.int x8), some (.int x9), some (.int x10), none]) (st1 := []) (σ1 := σ) rfl h26 ?_
      refine go_n 3 (f := (220, [some (.ref 60), some (.int x1), none, none, none, some (.int x5), some (.int x6), some (.int x7), some (.int x8), some (.int (x9 + 8)), some (.int x10), none], [.int x5, .ref 60], σ)) rfl ?_
      obtain ⟨q27, h28, hf⟩ := bnd hf
      refine go_c (mid := 12073) (args := [.ref 60, .int x5]) (pc := 223) (L := [some (.ref 60), some (.int x1), none, none, none, some (.int x5), some (.int x6), some (.int x7), some (.int x8), some (.int (x9 + 8)), some (.int x10), none]) (st := []) (σ := σ) rfl ((fX7_dayOn_ok _ _ q27 h28).deep (Nat.le_of_ble_eq_true rfl)) ?_
      refine go_n 1 (f := (129, [some (.ref 60), some (.int x1), none, none, none, some (.int x5), some (.int x6), some (.int x7), some (.int x8), some (.int (x9 + 8)), some (.int x10), none], [], q27)) rfl ?_
      refine go_e (L1 := [some (.ref 60), some (.int x1), none, none, none, some (.int x5), some (.int x6), some (.int x7), some (.int x8), some (.int (x9 + 8)), none, none]) rfl rfl ?_
      exact hrec129 _ _ _ _ hf
    · rw [if_neg h26] at hf
      refine go_if (t := 214) (f := 158) (L1 := [some (.ref 60), some (.int x1), none, none, none, some (.int x5), some (.int x6), some (.int x7), some (.int x8), some (.int x9), some (.int x10), none]) (st1 := []) (σ1 := σ) rfl h26 ?_
      refine go_n 6 (f := (166, [some (.ref 60), some (.int x1), none, none, none, some (.int x5), some (.int x6), some (.int x7), some (.int x8), some (.int x9), some (.int x10), none], [.int (x9 + (4 * x10)), .ref 60], σ)) rfl ?_
      obtain ⟨q29, h30, hf⟩ := bnd hf
      refine go_c (mid := 12071) (args := [.ref 60, .int (x9 + (4 * x10))]) (pc := 169) (L := [some (.ref 60), some (.int x1), none, none, none, some (.int x5), some (.int x6), some (.int x7), some (.int x8), some (.int x9), some (.int x10), none]) (st := []) (σ := σ) rfl ((fX7_bitsAt_ok _ _ q29 h30).deep (Nat.le_of_ble_eq_true rfl)) ?_
      obtain ⟨q31, h32, hf⟩ := bnd hf
      refine go_c (mid := 12072) (args := [.int q29]) (pc := 172) (L := [some (.ref 60), some (.int x1), none, none, none, some (.int x5), some (.int x6), some (.int x7), some (.int x8), some (.int x9), some (.int x10), none]) (st := []) (σ := σ) rfl ((fX7_degreesOf_ok _ _ q31 h32).deep (Nat.le_of_ble_eq_true rfl)) ?_
      refine go_n 3 (f := (178, [some (.ref 60), some (.int x1), none, none, none, some (.int x5), some (.int x6), some (.int x7), some (.int x8), some (.int x9), some (.int x10), some (.int q31)], [.int (-100000), .int q31], σ)) rfl ?_
      by_cases h33 : q31 = (-100000)
      · rw [if_pos h33] at hf
        refine go_it (t := 208) (f := 181) (L1 := [some (.ref 60), some (.int x1), none, none, none, some (.int x5), some (.int x6), some (.int x7), some (.int x8), some (.int x9), some (.int x10), some (.int q31)]) (st1 := []) (σ1 := σ) rfl h33 ?_
        refine go_e (L1 := [some (.ref 60), some (.int x1), none, none, none, some (.int x5), some (.int x6), some (.int x7), some (.int x8), some (.int x9), some (.int x10), none]) rfl rfl ?_
        exact fX7_row_J208_ok _ _ _ _ _ _ _ _ _ _ hrec129 hrec152 _ hf
      · rw [if_neg h33] at hf
        refine go_if (t := 208) (f := 181) (L1 := [some (.ref 60), some (.int x1), none, none, none, some (.int x5), some (.int x6), some (.int x7), some (.int x8), some (.int x9), some (.int x10), some (.int q31)]) (st1 := []) (σ1 := σ) rfl h33 ?_
        refine go_n 10 (f := (198, [some (.ref 60), some (.int x1), none, none, none, some (.int x5), some (.int x6), some (.int x7), some (.int x8), some (.int x9), some (.int x10), some (.int q31)], [.int q31, .int (gi σ 60 7), .int (gi σ 60 6), .int (gi σ 60 5), .int x1, .int 1, .ref 60], σ)) rfl ?_
        refine go_n 2 (f := (201, [some (.ref 60), some (.int x1), none, none, none, some (.int x5), some (.int x6), some (.int x7), some (.int x8), some (.int x9), some (.int x10), some (.int q31)], [.int 0, .int x6, .int q31, .int (gi σ 60 7), .int (gi σ 60 6), .int (gi σ 60 5), .int x1, .int 1, .ref 60], σ)) rfl ?_
        obtain ⟨q34, h35, hf⟩ := bnd hf
        refine go_c (mid := 12059) (args := [.ref 60, .int 1, .int x1, .int (gi σ 60 5), .int (gi σ 60 6), .int (gi σ 60 7), .int q31, .int x6, .int 0]) (pc := 204) (L := [some (.ref 60), some (.int x1), none, none, none, some (.int x5), some (.int x6), some (.int x7), some (.int x8), some (.int x9), some (.int x10), some (.int q31)]) (st := []) (σ := σ) rfl ((fX7_keep_ok _ _ _ _ _ _ _ _ _ q34 h35).deep (Nat.le_of_ble_eq_true rfl)) ?_
        refine go_n 2 (f := (208, [some (.ref 60), some (.int x1), none, none, none, some (.int x5), some (.int x6), some (.int x7), some (.int (x8 + 1)), some (.int x9), some (.int x10), some (.int q31)], [], q34.2)) rfl ?_
        refine go_e (L1 := [some (.ref 60), some (.int x1), none, none, none, some (.int x5), some (.int x6), some (.int x7), some (.int (x8 + 1)), some (.int x9), some (.int x10), none]) rfl rfl ?_
        exact fX7_row_J208_ok _ _ _ _ _ _ _ _ _ _ hrec129 hrec152 _ hf
def fX7_row_L129 (x1 : Int32) (x5 : Int32) (x6 : Int32) (x7 : Int32)  (rec129 : (Int32 × Int32 × Sg) → Option (Int32 × Sg)) (s : Int32 × Int32 × Sg) : Option (Int32 × Sg) :=
  match s with
  | (x8, x9, σ) => if x7 < (x9 + 8) then fX7_row_J226 x1 x5 x7 x8 x9  σ else if 1902 ≤ (gi σ 60 5) then fX7_row_J226 x1 x5 x7 x8 x9  σ else lp (fX7_row_L152 x1 x5 x6 x7 x9 rec129) N0 (x8, 0, σ)
set_option maxHeartbeats 1500000 in
theorem fX7_row_L129_ok (x1 : Int32) (x5 : Int32) (x6 : Int32) (x7 : Int32)   : ∀ (n : Nat) (x8 : Int32) (x9 : Int32) (σ : Sg) (r : (Int32 × Sg)), lp (fX7_row_L129 x1 x5 x6 x7 ) n (x8, x9, σ) = some r → Go true 3 iX7_row (129, [some (.ref 60), some (.int x1), none, none, none, some (.int x5), some (.int x6), some (.int x7), some (.int x8), some (.int x9), none, none], [], σ) (.inl (some (.int (r).1)), (r).2) := by
  intro n
  induction n with
  | zero => intro x8 x9 σ r hf; cases hf
  | succ n ih =>
    intro x8 x9 σ r hf
    have hf : fX7_row_L129 x1 x5 x6 x7  (lp (fX7_row_L129 x1 x5 x6 x7 ) n) (x8, x9, σ) = some r := hf
    have hrec129 := ih
    generalize lp (fX7_row_L129 x1 x5 x6 x7 ) n = rec129 at hf hrec129
    unfold fX7_row_L129 at hf
    dsimp only at hf
    refine go_n 4 (f := (136, [some (.ref 60), some (.int x1), none, none, none, some (.int x5), some (.int x6), some (.int x7), some (.int x8), some (.int x9), none, none], [.int x7, .int (x9 + 8)], σ)) rfl ?_
    by_cases h17 : x7 < (x9 + 8)
    · rw [if_pos h17] at hf
      refine go_it (t := 226) (f := 139) (L1 := [some (.ref 60), some (.int x1), none, none, none, some (.int x5), some (.int x6), some (.int x7), some (.int x8), some (.int x9), none, none]) (st1 := []) (σ1 := σ) rfl h17 ?_
      refine go_e (L1 := [some (.ref 60), some (.int x1), none, none, none, some (.int x5), none, some (.int x7), some (.int x8), some (.int x9), none, none]) rfl rfl ?_
      exact fX7_row_J226_ok _ _ _ _ _  _  _ hf
    · rw [if_neg h17] at hf
      refine go_if (t := 226) (f := 139) (L1 := [some (.ref 60), some (.int x1), none, none, none, some (.int x5), some (.int x6), some (.int x7), some (.int x8), some (.int x9), none, none]) (st1 := []) (σ1 := σ) rfl h17 ?_
      refine go_n 3 (f := (146, [some (.ref 60), some (.int x1), none, none, none, some (.int x5), some (.int x6), some (.int x7), some (.int x8), some (.int x9), none, none], [.int 1902, .int (gi σ 60 5)], σ)) rfl ?_
      by_cases h25 : 1902 ≤ (gi σ 60 5)
      · rw [if_pos h25] at hf
        refine go_it (t := 226) (f := 149) (L1 := [some (.ref 60), some (.int x1), none, none, none, some (.int x5), some (.int x6), some (.int x7), some (.int x8), some (.int x9), none, none]) (st1 := []) (σ1 := σ) rfl h25 ?_
        refine go_e (L1 := [some (.ref 60), some (.int x1), none, none, none, some (.int x5), none, some (.int x7), some (.int x8), some (.int x9), none, none]) rfl rfl ?_
        exact fX7_row_J226_ok _ _ _ _ _  _  _ hf
      · rw [if_neg h25] at hf
        refine go_if (t := 226) (f := 149) (L1 := [some (.ref 60), some (.int x1), none, none, none, some (.int x5), some (.int x6), some (.int x7), some (.int x8), some (.int x9), none, none]) (st1 := []) (σ1 := σ) rfl h25 ?_
        refine go_n 2 (f := (152, [some (.ref 60), some (.int x1), none, none, none, some (.int x5), some (.int x6), some (.int x7), some (.int x8), some (.int x9), some (.int 0), none], [], σ)) rfl ?_
        exact fX7_row_L152_ok _ _ _ _ _ _ hrec129 N0 _ _ _ _ hf
def fX7_row (x1 : Int32) (x2 : Int32) (x3 : Int32) (x4 : Int32) (x5 : Int32) (x6 : Int32) (σ : Sg) : Option (Int32 × Sg) :=
  (fX7_in x5.toInt64 0 1).bind fun q1 => if q1 = 0 then fX7_row_J47   (wi (wi σ 60 0 0) 60 14 0) else (fX7_isDate x2 x3 x4 x5).bind fun q6 => if q6 = 0 then fX7_row_J47   (wi (wi σ 60 0 0) 60 14 0) else (fX7_isKnown x6).bind fun q9 => if q9 ≠ 0 then (fX7_isSource x1 (wi (wi σ 60 0 0) 60 14 0)).bind fun q12 => if q12 ≠ 0 then if ((gi σ 61 2) + (2 * ((gi σ 60 14) / 8))) ≤ 200 then if (gi σ 60 14) ≠ 0 then lp (fX7_row_L129 x1 x5 x6 (gi σ 60 14) ) N0 (0, 0, (wi (wi (wi (wi (wi σ 60 0 0) 60 14 0) 60 5 x2) 60 6 x3) 60 7 x4)) else (fX7_told (-6) (wi (wi σ 60 0 0) 60 14 0)).bind fun q36 => some (q36.1, q36.2) else (fX7_told (-5) (wi (wi σ 60 0 0) 60 14 0)).bind fun q38 => some (q38.1, q38.2) else (fX7_told (-2) (wi (wi σ 60 0 0) 60 14 0)).bind fun q40 => some (q40.1, q40.2) else fX7_row_J47   (wi (wi σ 60 0 0) 60 14 0)
set_option maxHeartbeats 1500000 in
theorem fX7_row_ok (x1 : Int32) (x2 : Int32) (x3 : Int32) (x4 : Int32) (x5 : Int32) (x6 : Int32) (σ : Sg) (r : (Int32 × Sg)) (hf : fX7_row x1 x2 x3 x4 x5 x6 σ = some r) : Cl true 3 12070 [.ref 60, .int x1, .int x2, .int x3, .int x4, .int x5, .int x6] σ (.inl (some (.int (r).1)), (r).2) := by
  refine ⟨iX7_row, rfl, Nat.le_of_ble_eq_true rfl, Nat.le_of_ble_eq_true rfl, ?_⟩
  show Go true 3 iX7_row (0, [some (.ref 60), some (.int x1), some (.int x2), some (.int x3), some (.int x4), some (.int x5), some (.int x6), none, none, none, none, none], [], σ) (.inl (some (.int (r).1)), (r).2)
  unfold fX7_row at hf
  refine go_n 6 (f := (11, [some (.ref 60), some (.int x1), some (.int x2), some (.int x3), some (.int x4), some (.int x5), some (.int x6), some (.int (gi σ 60 14)), none, none, none, none], [], (wi σ 60 0 0))) rfl ?_
  refine go_n 7 (f := (21, [some (.ref 60), some (.int x1), some (.int x2), some (.int x3), some (.int x4), some (.int x5), some (.int x6), some (.int (gi σ 60 14)), none, none, none, none], [.long 1, .long 0, .long x5.toInt64], (wi (wi σ 60 0 0) 60 14 0))) rfl ?_
  obtain ⟨q1, h2, hf⟩ := bnd hf
  refine go_c (mid := 12034) (args := [.long x5.toInt64, .long 0, .long 1]) (pc := 24) (L := [some (.ref 60), some (.int x1), some (.int x2), some (.int x3), some (.int x4), some (.int x5), some (.int x6), some (.int (gi σ 60 14)), none, none, none, none]) (st := []) (σ := (wi (wi σ 60 0 0) 60 14 0)) rfl ((fX7_in_ok _ _ _ _ q1 h2).deep (Nat.le_of_ble_eq_true rfl)) ?_
  by_cases h3 : q1 = 0
  · rw [if_pos h3] at hf
    refine go_it (t := 47) (f := 27) (L1 := [some (.ref 60), some (.int x1), some (.int x2), some (.int x3), some (.int x4), some (.int x5), some (.int x6), some (.int (gi σ 60 14)), none, none, none, none]) (st1 := []) (σ1 := (wi (wi σ 60 0 0) 60 14 0)) rfl h3 ?_
    refine go_e (L1 := [some (.ref 60), none, none, none, none, none, none, none, none, none, none, none]) rfl rfl ?_
    exact fX7_row_J47_ok   _  _ hf
  · rw [if_neg h3] at hf
    refine go_if (t := 47) (f := 27) (L1 := [some (.ref 60), some (.int x1), some (.int x2), some (.int x3), some (.int x4), some (.int x5), some (.int x6), some (.int (gi σ 60 14)), none, none, none, none]) (st1 := []) (σ1 := (wi (wi σ 60 0 0) 60 14 0)) rfl h3 ?_
    refine go_n 4 (f := (33, [some (.ref 60), some (.int x1), some (.int x2), some (.int x3), some (.int x4), some (.int x5), some (.int x6), some (.int (gi σ 60 14)), none, none, none, none], [.int x5, .int x4, .int x3, .int x2], (wi (wi σ 60 0 0) 60 14 0))) rfl ?_
    obtain ⟨q6, h7, hf⟩ := bnd hf
    refine go_c (mid := 12038) (args := [.int x2, .int x3, .int x4, .int x5]) (pc := 36) (L := [some (.ref 60), some (.int x1), some (.int x2), some (.int x3), some (.int x4), some (.int x5), some (.int x6), some (.int (gi σ 60 14)), none, none, none, none]) (st := []) (σ := (wi (wi σ 60 0 0) 60 14 0)) rfl ((fX7_isDate_ok _ _ _ _ _ q6 h7).deep (Nat.le_of_ble_eq_true rfl)) ?_
    by_cases h8 : q6 = 0
    · rw [if_pos h8] at hf
      refine go_it (t := 47) (f := 39) (L1 := [some (.ref 60), some (.int x1), some (.int x2), some (.int x3), some (.int x4), some (.int x5), some (.int x6), some (.int (gi σ 60 14)), none, none, none, none]) (st1 := []) (σ1 := (wi (wi σ 60 0 0) 60 14 0)) rfl h8 ?_
      refine go_e (L1 := [some (.ref 60), none, none, none, none, none, none, none, none, none, none, none]) rfl rfl ?_
      exact fX7_row_J47_ok   _  _ hf
    · rw [if_neg h8] at hf
      refine go_if (t := 47) (f := 39) (L1 := [some (.ref 60), some (.int x1), some (.int x2), some (.int x3), some (.int x4), some (.int x5), some (.int x6), some (.int (gi σ 60 14)), none, none, none, none]) (st1 := []) (σ1 := (wi (wi σ 60 0 0) 60 14 0)) rfl h8 ?_
      refine go_n 1 (f := (41, [some (.ref 60), some (.int x1), some (.int x2), some (.int x3), some (.int x4), some (.int x5), some (.int x6), some (.int (gi σ 60 14)), none, none, none, none], [.int x6], (wi (wi σ 60 0 0) 60 14 0))) rfl ?_
      obtain ⟨q9, h10, hf⟩ := bnd hf
      refine go_c (mid := 12057) (args := [.int x6]) (pc := 44) (L := [some (.ref 60), some (.int x1), some (.int x2), some (.int x3), some (.int x4), some (.int x5), some (.int x6), some (.int (gi σ 60 14)), none, none, none, none]) (st := []) (σ := (wi (wi σ 60 0 0) 60 14 0)) rfl ((fX7_isKnown_ok _ _ q9 h10).deep (Nat.le_of_ble_eq_true rfl)) ?_
      by_cases h11 : q9 ≠ 0
      · rw [if_pos h11] at hf
        refine go_it (t := 53) (f := 47) (L1 := [some (.ref 60), some (.int x1), some (.int x2), some (.int x3), some (.int x4), some (.int x5), some (.int x6), some (.int (gi σ 60 14)), none, none, none, none]) (st1 := []) (σ1 := (wi (wi σ 60 0 0) 60 14 0)) rfl h11 ?_
        refine go_n 2 (f := (55, [some (.ref 60), some (.int x1), some (.int x2), some (.int x3), some (.int x4), some (.int x5), some (.int x6), some (.int (gi σ 60 14)), none, none, none, none], [.int x1, .ref 60], (wi (wi σ 60 0 0) 60 14 0))) rfl ?_
        obtain ⟨q12, h13, hf⟩ := bnd hf
        refine go_c (mid := 12053) (args := [.ref 60, .int x1]) (pc := 58) (L := [some (.ref 60), some (.int x1), some (.int x2), some (.int x3), some (.int x4), some (.int x5), some (.int x6), some (.int (gi σ 60 14)), none, none, none, none]) (st := []) (σ := (wi (wi σ 60 0 0) 60 14 0)) rfl ((fX7_isSource_ok _ _ q12 h13).deep (Nat.le_of_ble_eq_true rfl)) ?_
        by_cases h14 : q12 ≠ 0
        · rw [if_pos h14] at hf
          refine go_it (t := 68) (f := 61) (L1 := [some (.ref 60), some (.int x1), some (.int x2), some (.int x3), some (.int x4), some (.int x5), some (.int x6), some (.int (gi σ 60 14)), none, none, none, none]) (st1 := []) (σ1 := (wi (wi σ 60 0 0) 60 14 0)) rfl h14 ?_
          refine go_n 7 (f := (79, [some (.ref 60), some (.int x1), some (.int x2), some (.int x3), some (.int x4), some (.int x5), some (.int x6), some (.int (gi σ 60 14)), none, none, none, none], [.int 8, .int (gi σ 60 14), .int 2, .int (gi σ 61 2)], (wi (wi σ 60 0 0) 60 14 0))) rfl ?_
          refine go_idiv rfl rfl (by decide) ?_
          refine go_n 3 (f := (85, [some (.ref 60), some (.int x1), some (.int x2), some (.int x3), some (.int x4), some (.int x5), some (.int x6), some (.int (gi σ 60 14)), none, none, none, none], [.int 200, .int ((gi σ 61 2) + (2 * ((gi σ 60 14) / 8)))], (wi (wi σ 60 0 0) 60 14 0))) rfl ?_
          by_cases h15 : ((gi σ 61 2) + (2 * ((gi σ 60 14) / 8))) ≤ 200
          · rw [if_pos h15] at hf
            refine go_it (t := 95) (f := 88) (L1 := [some (.ref 60), some (.int x1), some (.int x2), some (.int x3), some (.int x4), some (.int x5), some (.int x6), some (.int (gi σ 60 14)), none, none, none, none]) (st1 := []) (σ1 := (wi (wi σ 60 0 0) 60 14 0)) rfl h15 ?_
            refine go_n 1 (f := (97, [some (.ref 60), some (.int x1), some (.int x2), some (.int x3), some (.int x4), some (.int x5), some (.int x6), some (.int (gi σ 60 14)), none, none, none, none], [.int (gi σ 60 14)], (wi (wi σ 60 0 0) 60 14 0))) rfl ?_
            by_cases h16 : (gi σ 60 14) ≠ 0
            · rw [if_pos h16] at hf
              refine go_it (t := 107) (f := 100) (L1 := [some (.ref 60), some (.int x1), some (.int x2), some (.int x3), some (.int x4), some (.int x5), some (.int x6), some (.int (gi σ 60 14)), none, none, none, none]) (st1 := []) (σ1 := (wi (wi σ 60 0 0) 60 14 0)) rfl h16 ?_
              refine go_n 6 (f := (117, [some (.ref 60), some (.int x1), some (.int x2), some (.int x3), some (.int x4), some (.int x5), some (.int x6), some (.int (gi σ 60 14)), none, none, none, none], [], (wi (wi (wi (wi σ 60 0 0) 60 14 0) 60 5 x2) 60 6 x3))) rfl ?_
              refine go_n 5 (f := (126, [some (.ref 60), some (.int x1), some (.int x2), some (.int x3), some (.int x4), some (.int x5), some (.int x6), some (.int (gi σ 60 14)), some (.int 0), none, none, none], [], (wi (wi (wi (wi (wi σ 60 0 0) 60 14 0) 60 5 x2) 60 6 x3) 60 7 x4))) rfl ?_
              refine go_n 2 (f := (129, [some (.ref 60), some (.int x1), some (.int x2), some (.int x3), some (.int x4), some (.int x5), some (.int x6), some (.int (gi σ 60 14)), some (.int 0), some (.int 0), none, none], [], (wi (wi (wi (wi (wi σ 60 0 0) 60 14 0) 60 5 x2) 60 6 x3) 60 7 x4))) rfl ?_
              refine go_e (L1 := [some (.ref 60), some (.int x1), none, none, none, some (.int x5), some (.int x6), some (.int (gi σ 60 14)), some (.int 0), some (.int 0), none, none]) rfl rfl ?_
              exact fX7_row_L129_ok _ _ _ _   N0 _ _ _ _ hf
            · rw [if_neg h16] at hf
              refine go_if (t := 107) (f := 100) (L1 := [some (.ref 60), some (.int x1), some (.int x2), some (.int x3), some (.int x4), some (.int x5), some (.int x6), some (.int (gi σ 60 14)), none, none, none, none]) (st1 := []) (σ1 := (wi (wi σ 60 0 0) 60 14 0)) rfl h16 ?_
              refine go_n 2 (f := (103, [some (.ref 60), some (.int x1), some (.int x2), some (.int x3), some (.int x4), some (.int x5), some (.int x6), some (.int (gi σ 60 14)), none, none, none, none], [.int (-6), .ref 60], (wi (wi σ 60 0 0) 60 14 0))) rfl ?_
              obtain ⟨q36, h37, hf⟩ := bnd hf
              refine go_c (mid := 12035) (args := [.ref 60, .int (-6)]) (pc := 106) (L := [some (.ref 60), some (.int x1), some (.int x2), some (.int x3), some (.int x4), some (.int x5), some (.int x6), some (.int (gi σ 60 14)), none, none, none, none]) (st := []) (σ := (wi (wi σ 60 0 0) 60 14 0)) rfl ((fX7_told_ok _ _ q36 h37).deep (Nat.le_of_ble_eq_true rfl)) ?_
              cases hf
              exact go_r rfl
          · rw [if_neg h15] at hf
            refine go_if (t := 95) (f := 88) (L1 := [some (.ref 60), some (.int x1), some (.int x2), some (.int x3), some (.int x4), some (.int x5), some (.int x6), some (.int (gi σ 60 14)), none, none, none, none]) (st1 := []) (σ1 := (wi (wi σ 60 0 0) 60 14 0)) rfl h15 ?_
            refine go_n 2 (f := (91, [some (.ref 60), some (.int x1), some (.int x2), some (.int x3), some (.int x4), some (.int x5), some (.int x6), some (.int (gi σ 60 14)), none, none, none, none], [.int (-5), .ref 60], (wi (wi σ 60 0 0) 60 14 0))) rfl ?_
            obtain ⟨q38, h39, hf⟩ := bnd hf
            refine go_c (mid := 12035) (args := [.ref 60, .int (-5)]) (pc := 94) (L := [some (.ref 60), some (.int x1), some (.int x2), some (.int x3), some (.int x4), some (.int x5), some (.int x6), some (.int (gi σ 60 14)), none, none, none, none]) (st := []) (σ := (wi (wi σ 60 0 0) 60 14 0)) rfl ((fX7_told_ok _ _ q38 h39).deep (Nat.le_of_ble_eq_true rfl)) ?_
            cases hf
            exact go_r rfl
        · rw [if_neg h14] at hf
          refine go_if (t := 68) (f := 61) (L1 := [some (.ref 60), some (.int x1), some (.int x2), some (.int x3), some (.int x4), some (.int x5), some (.int x6), some (.int (gi σ 60 14)), none, none, none, none]) (st1 := []) (σ1 := (wi (wi σ 60 0 0) 60 14 0)) rfl h14 ?_
          refine go_n 2 (f := (64, [some (.ref 60), some (.int x1), some (.int x2), some (.int x3), some (.int x4), some (.int x5), some (.int x6), some (.int (gi σ 60 14)), none, none, none, none], [.int (-2), .ref 60], (wi (wi σ 60 0 0) 60 14 0))) rfl ?_
          obtain ⟨q40, h41, hf⟩ := bnd hf
          refine go_c (mid := 12035) (args := [.ref 60, .int (-2)]) (pc := 67) (L := [some (.ref 60), some (.int x1), some (.int x2), some (.int x3), some (.int x4), some (.int x5), some (.int x6), some (.int (gi σ 60 14)), none, none, none, none]) (st := []) (σ := (wi (wi σ 60 0 0) 60 14 0)) rfl ((fX7_told_ok _ _ q40 h41).deep (Nat.le_of_ble_eq_true rfl)) ?_
          cases hf
          exact go_r rfl
      · rw [if_neg h11] at hf
        refine go_if (t := 53) (f := 47) (L1 := [some (.ref 60), some (.int x1), some (.int x2), some (.int x3), some (.int x4), some (.int x5), some (.int x6), some (.int (gi σ 60 14)), none, none, none, none]) (st1 := []) (σ1 := (wi (wi σ 60 0 0) 60 14 0)) rfl h11 ?_
        refine go_e (L1 := [some (.ref 60), none, none, none, none, none, none, none, none, none, none, none]) rfl rfl ?_
        exact fX7_row_J47_ok   _  _ hf
/-! OldWeatherModel.begin()V -/
def fX7_begin  (σ : Sg) : Option Sg :=
  (fX7_next  (wi (wi (wi σ 60 16 0) 60 20 0) 60 19 (-1))).bind fun q1 => some q1
set_option maxHeartbeats 1500000 in
theorem fX7_begin_ok  (σ : Sg) (r : Sg) (hf : fX7_begin  σ = some r) : Cl true 2 12079 [.ref 60] σ (.inl none, r) := by
  refine ⟨iX7_begin, rfl, Nat.le_of_ble_eq_true rfl, Nat.le_of_ble_eq_true rfl, ?_⟩
  show Go true 2 iX7_begin (0, [some (.ref 60)], [], σ) (.inl none, r)
  unfold fX7_begin at hf
  refine go_n 6 (f := (10, [some (.ref 60)], [], (wi (wi σ 60 16 0) 60 20 0))) rfl ?_
  refine go_n 4 (f := (16, [some (.ref 60)], [.ref 60], (wi (wi (wi σ 60 16 0) 60 20 0) 60 19 (-1)))) rfl ?_
  obtain ⟨q1, h2, hf⟩ := bnd hf
  refine go_c (mid := 12080) (args := [.ref 60]) (pc := 19) (L := [some (.ref 60)]) (st := []) (σ := (wi (wi (wi σ 60 16 0) 60 20 0) 60 19 (-1))) rfl ((fX7_next_ok _ q1 h2).deep (Nat.le_of_ble_eq_true rfl)) ?_
  cases hf
  exact go_r rfl
/-! OldWeatherModel.readPart()I -/
def fX7_readPart_J18   (σ : Sg) : Option (Int32 × Sg) :=
  (fX7_isSign 91 σ).bind fun q4 => ((fun (z7 : Int32) => (fX7_open z7 σ).bind fun q8 => some (1, q8)) ((if q4 = 0 then 15 else 31) : Int32))
set_option maxHeartbeats 1500000 in
theorem fX7_readPart_J18_ok   (σ : Sg)  (r : (Int32 × Sg)) (hf : fX7_readPart_J18   σ = some r) : Go true 4 iX7_readPart (18, [some (.ref 60), none, none, none], [], σ) (.inl (some (.int (r).1)), (r).2) := by
  unfold fX7_readPart_J18 at hf
  refine go_n 3 (f := (22, [some (.ref 60), none, none, none], [.int 91, .ref 60, .ref 60], σ)) rfl ?_
  obtain ⟨q4, h5, hf⟩ := bnd hf
  refine go_c (mid := 12094) (args := [.ref 60, .int 91]) (pc := 25) (L := [some (.ref 60), none, none, none]) (st := [.ref 60]) (σ := σ) rfl ((fX7_isSign_ok _ _ q4 h5).deep (Nat.le_of_ble_eq_true rfl)) ?_
  refine go_m (f := (35, [none, none, none, none], [.int ((if q4 = 0 then 15 else 31) : Int32), .ref 60], σ)) ?_ (fun hJ10 => ?_)
  · generalize hz7 : ((if q4 = 0 then 15 else 31) : Int32) = z7 at hf ⊢
    try dsimp only at hf
    obtain ⟨q8, h9, hf⟩ := bnd hf
    refine go_c (mid := 12095) (args := [.ref 60, .int z7]) (pc := 38) (L := [none, none, none, none]) (st := []) (σ := σ) rfl ((fX7_open_ok _ _ q8 h9).deep (Nat.le_of_ble_eq_true rfl)) ?_
    refine go_n 1 (f := (39, [none, none, none, none], [.int 1], q8)) rfl ?_
    cases hf
    exact go_r rfl
  · by_cases h6 : q4 = 0
    · refine go_it (t := 33) (f := 28) (L1 := [some (.ref 60), none, none, none]) (st1 := [.ref 60]) (σ1 := σ) rfl h6 ?_
      refine go_n 1 (f := (35, [some (.ref 60), none, none, none], [.int 15, .ref 60], σ)) rfl ?_
      refine go_e (L1 := [none, none, none, none]) rfl rfl ?_
      simp only [if_pos h6] at hJ10
      first | exact hJ10 | (simp only [if_pos h6]; exact hJ10)
    · refine go_if (t := 33) (f := 28) (L1 := [some (.ref 60), none, none, none]) (st1 := [.ref 60]) (σ1 := σ) rfl h6 ?_
      refine go_n 2 (f := (35, [some (.ref 60), none, none, none], [.int 31, .ref 60], σ)) rfl ?_
      refine go_e (L1 := [none, none, none, none]) rfl rfl ?_
      simp only [if_neg h6] at hJ10
      first | exact hJ10 | (simp only [if_neg h6]; exact hJ10)
def fX7_readPart  (σ : Sg) : Option (Int32 × Sg) :=
  (fX7_isSign 91 σ).bind fun q1 => if q1 ≠ 0 then fX7_readPart_J18   σ else (fX7_isSign 45 σ).bind fun q11 => if q11 = 0 then (fX7_partAt  σ).bind fun q14 => ((fun (z18 : Int32) => ((fun (z20 : Int32) => ((fun (z25 : Int32) => (fX7_must z25 σ).bind fun q26 => if (gi q26 60 20) ≠ 0 then some (3, q26) else ((fun (z30 : Int32) => (fX7_emit z30 z20 q26).bind fun q31 => (fX7_settle 7 (wi q31 60 26 ((gi q31 60 26) + 1))).bind fun q33 => some (3, q33)) (if q14 ≠ (-1) then q14 else 0))) ((if q14 ≠ (-1) then (if 60 ≤ (gi σ 60 26) then 0 else 1) else (if z18 = 0 then 0 else (if 60 ≤ (gi σ 60 26) then 0 else 1))) : Int32))) (if z18 = 0 then 0 else (gl σ 60 18).toInt32))) ((if (gi σ 60 17) ≠ 2 then 0 else (if 10000 < (gl σ 60 18) then 0 else 1)) : Int32)) else fX7_readPart_J18   σ
set_option maxHeartbeats 1500000 in
theorem fX7_readPart_ok  (σ : Sg) (r : (Int32 × Sg)) (hf : fX7_readPart  σ = some r) : Cl true 4 12096 [.ref 60] σ (.inl (some (.int (r).1)), (r).2) := by
  refine ⟨iX7_readPart, rfl, Nat.le_of_ble_eq_true rfl, Nat.le_of_ble_eq_true rfl, ?_⟩
  show Go true 4 iX7_readPart (0, [some (.ref 60), none, none, none], [], σ) (.inl (some (.int (r).1)), (r).2)
  unfold fX7_readPart at hf
  refine go_n 2 (f := (3, [some (.ref 60), none, none, none], [.int 91, .ref 60], σ)) rfl ?_
  obtain ⟨q1, h2, hf⟩ := bnd hf
  refine go_c (mid := 12094) (args := [.ref 60, .int 91]) (pc := 6) (L := [some (.ref 60), none, none, none]) (st := []) (σ := σ) rfl ((fX7_isSign_ok _ _ q1 h2).deep (Nat.le_of_ble_eq_true rfl)) ?_
  by_cases h3 : q1 ≠ 0
  · rw [if_pos h3] at hf
    refine go_it (t := 18) (f := 9) (L1 := [some (.ref 60), none, none, none]) (st1 := []) (σ1 := σ) rfl h3 ?_
    exact fX7_readPart_J18_ok   _  _ hf
  · rw [if_neg h3] at hf
    refine go_if (t := 18) (f := 9) (L1 := [some (.ref 60), none, none, none]) (st1 := []) (σ1 := σ) rfl h3 ?_
    refine go_n 2 (f := (12, [some (.ref 60), none, none, none], [.int 45, .ref 60], σ)) rfl ?_
    obtain ⟨q11, h12, hf⟩ := bnd hf
    refine go_c (mid := 12094) (args := [.ref 60, .int 45]) (pc := 15) (L := [some (.ref 60), none, none, none]) (st := []) (σ := σ) rfl ((fX7_isSign_ok _ _ q11 h12).deep (Nat.le_of_ble_eq_true rfl)) ?_
    by_cases h13 : q11 = 0
    · rw [if_pos h13] at hf
      refine go_it (t := 40) (f := 18) (L1 := [some (.ref 60), none, none, none]) (st1 := []) (σ1 := σ) rfl h13 ?_
      refine go_n 1 (f := (41, [some (.ref 60), none, none, none], [.ref 60], σ)) rfl ?_
      obtain ⟨q14, h15, hf⟩ := bnd hf
      refine go_c (mid := 12097) (args := [.ref 60]) (pc := 44) (L := [some (.ref 60), none, none, none]) (st := []) (σ := σ) rfl ((fX7_partAt_ok _ q14 h15).deep (Nat.le_of_ble_eq_true rfl)) ?_
      refine go_n 4 (f := (50, [some (.ref 60), some (.int q14), none, none], [.int 2, .int (gi σ 60 17)], σ)) rfl ?_
      refine go_m (f := (69, [some (.ref 60), some (.int q14), none, none], [.int ((if (gi σ 60 17) ≠ 2 then 0 else (if 10000 < (gl σ 60 18) then 0 else 1)) : Int32)], σ)) ?_ (fun hJ38 => ?_)
      · generalize hz18 : ((if (gi σ 60 17) ≠ 2 then 0 else (if 10000 < (gl σ 60 18) then 0 else 1)) : Int32) = z18 at hf ⊢
        have oz18 : am_ok 3 z18 = true := hz18 ▸ (okb rfl (okb rfl rfl))
        try dsimp only at hf
        refine go_n 2 (f := (71, [some (.ref 60), some (.int q14), some (.int z18), none], [.int z18], σ)) rfl ?_
        refine go_m (f := (83, [some (.ref 60), some (.int q14), some (.int z18), none], [.int (if z18 = 0 then 0 else (gl σ 60 18).toInt32)], σ)) ?_ (fun hJ37 => ?_)
        · generalize hz20 : (if z18 = 0 then 0 else (gl σ 60 18).toInt32) = z20 at hf ⊢
          try dsimp only at hf
          refine go_n 4 (f := (87, [some (.ref 60), some (.int q14), some (.int z18), some (.int z20)], [.int (-1), .int q14, .ref 60], σ)) rfl ?_
          refine go_m (f := (108, [some (.ref 60), some (.int q14), none, some (.int z20)], [.int ((if q14 ≠ (-1) then (if 60 ≤ (gi σ 60 26) then 0 else 1) else (if z18 = 0 then 0 else (if 60 ≤ (gi σ 60 26) then 0 else 1))) : Int32), .ref 60], σ)) ?_ (fun hJ36 => ?_)
          · generalize hz25 : ((if q14 ≠ (-1) then (if 60 ≤ (gi σ 60 26) then 0 else 1) else (if z18 = 0 then 0 else (if 60 ≤ (gi σ 60 26) then 0 else 1))) : Int32) = z25 at hf ⊢
            have oz25 : am_ok 3 z25 = true := hz25 ▸ (okb (okb rfl rfl) (okb rfl (okb rfl rfl)))
            try dsimp only at hf
            obtain ⟨q26, h27, hf⟩ := bnd hf
            refine go_c (mid := 12086) (args := [.ref 60, .int z25]) (pc := 111) (L := [some (.ref 60), some (.int q14), none, some (.int z20)]) (st := []) (σ := σ) rfl ((fX7_must_ok _ _ q26 h27).deep (Nat.le_of_ble_eq_true rfl)) ?_
            refine go_n 2 (f := (115, [some (.ref 60), some (.int q14), none, some (.int z20)], [.int (gi q26 60 20)], q26)) rfl ?_
            by_cases h28 : (gi q26 60 20) ≠ 0
            · rw [if_pos h28] at hf
              refine go_it (t := 149) (f := 118) (L1 := [some (.ref 60), some (.int q14), none, some (.int z20)]) (st1 := []) (σ1 := q26) rfl h28 ?_
              refine go_e (L1 := [none, none, none, none]) rfl rfl ?_
              refine go_n 1 (f := (150, [none, none, none, none], [.int 3], q26)) rfl ?_
              cases hf
              exact go_r rfl
            · rw [if_neg h28] at hf
              refine go_if (t := 149) (f := 118) (L1 := [some (.ref 60), some (.int q14), none, some (.int z20)]) (st1 := []) (σ1 := q26) rfl h28 ?_
              refine go_n 3 (f := (121, [some (.ref 60), some (.int q14), none, some (.int z20)], [.int (-1), .int q14, .ref 60], q26)) rfl ?_
              refine go_m (f := (129, [some (.ref 60), none, none, some (.int z20)], [.int (if q14 ≠ (-1) then q14 else 0), .ref 60], q26)) ?_ (fun hJ35 => ?_)
              · generalize hz30 : (if q14 ≠ (-1) then q14 else 0) = z30 at hf ⊢
                try dsimp only at hf
                refine go_n 1 (f := (130, [some (.ref 60), none, none, some (.int z20)], [.int z20, .int z30, .ref 60], q26)) rfl ?_
                obtain ⟨q31, h32, hf⟩ := bnd hf
                refine go_c (mid := 12098) (args := [.ref 60, .int z30, .int z20]) (pc := 133) (L := [some (.ref 60), none, none, some (.int z20)]) (st := []) (σ := q26) rfl ((fX7_emit_ok _ _ _ q31 h32).deep (Nat.le_of_ble_eq_true rfl)) ?_
                refine go_n 8 (f := (146, [some (.ref 60), none, none, some (.int z20)], [.int 7, .ref 60], (wi q31 60 26 ((gi q31 60 26) + 1)))) rfl ?_
                obtain ⟨q33, h34, hf⟩ := bnd hf
                refine go_c (mid := 12099) (args := [.ref 60, .int 7]) (pc := 149) (L := [some (.ref 60), none, none, some (.int z20)]) (st := []) (σ := (wi q31 60 26 ((gi q31 60 26) + 1))) rfl ((fX7_settle_ok _ _ q33 h34).deep (Nat.le_of_ble_eq_true rfl)) ?_
                refine go_e (L1 := [none, none, none, none]) rfl rfl ?_
                refine go_n 1 (f := (150, [none, none, none, none], [.int 3], q33)) rfl ?_
                cases hf
                exact go_r rfl
              · by_cases h29 : q14 ≠ (-1)
                · refine go_it (t := 128) (f := 124) (L1 := [some (.ref 60), some (.int q14), none, some (.int z20)]) (st1 := [.ref 60]) (σ1 := q26) rfl h29 ?_
                  refine go_n 1 (f := (129, [some (.ref 60), some (.int q14), none, some (.int z20)], [.int q14, .ref 60], q26)) rfl ?_
                  refine go_e (L1 := [some (.ref 60), none, none, some (.int z20)]) rfl rfl ?_
                  simp only [if_pos h29] at hJ35
                  first | exact hJ35 | (simp only [if_pos h29]; exact hJ35)
                · refine go_if (t := 128) (f := 124) (L1 := [some (.ref 60), some (.int q14), none, some (.int z20)]) (st1 := [.ref 60]) (σ1 := q26) rfl h29 ?_
                  refine go_n 2 (f := (129, [some (.ref 60), some (.int q14), none, some (.int z20)], [.int 0, .ref 60], q26)) rfl ?_
                  refine go_e (L1 := [some (.ref 60), none, none, some (.int z20)]) rfl rfl ?_
                  simp only [if_neg h29] at hJ35
                  first | exact hJ35 | (simp only [if_neg h29]; exact hJ35)
          · by_cases h21 : q14 ≠ (-1)
            · refine go_it (t := 94) (f := 90) (L1 := [some (.ref 60), some (.int q14), some (.int z18), some (.int z20)]) (st1 := [.ref 60]) (σ1 := σ) rfl h21 ?_
              refine go_e (L1 := [some (.ref 60), some (.int q14), none, some (.int z20)]) rfl rfl ?_
              refine go_n 3 (f := (100, [some (.ref 60), some (.int q14), none, some (.int z20)], [.int 60, .int (gi σ 60 26), .ref 60], σ)) rfl ?_
              by_cases h22 : 60 ≤ (gi σ 60 26)
              · refine go_it (t := 107) (f := 103) (L1 := [some (.ref 60), some (.int q14), none, some (.int z20)]) (st1 := [.ref 60]) (σ1 := σ) rfl h22 ?_
                refine go_n 1 (f := (108, [some (.ref 60), some (.int q14), none, some (.int z20)], [.int 0, .ref 60], σ)) rfl ?_
                refine go_e (L1 := [some (.ref 60), some (.int q14), none, some (.int z20)]) rfl rfl ?_
                simp only [if_pos h21, if_pos h22] at hJ36
                first | exact hJ36 | (simp only [if_pos h21, if_pos h22]; exact hJ36)
              · refine go_if (t := 107) (f := 103) (L1 := [some (.ref 60), some (.int q14), none, some (.int z20)]) (st1 := [.ref 60]) (σ1 := σ) rfl h22 ?_
                refine go_n 2 (f := (108, [some (.ref 60), some (.int q14), none, some (.int z20)], [.int 1, .ref 60], σ)) rfl ?_
                refine go_e (L1 := [some (.ref 60), some (.int q14), none, some (.int z20)]) rfl rfl ?_
                simp only [if_pos h21, if_neg h22] at hJ36
                first | exact hJ36 | (simp only [if_pos h21, if_neg h22]; exact hJ36)
            · refine go_if (t := 94) (f := 90) (L1 := [some (.ref 60), some (.int q14), some (.int z18), some (.int z20)]) (st1 := [.ref 60]) (σ1 := σ) rfl h21 ?_
              refine go_n 1 (f := (91, [some (.ref 60), some (.int q14), some (.int z18), some (.int z20)], [.int z18, .ref 60], σ)) rfl ?_
              by_cases h23 : z18 = 0
              · refine go_it (t := 107) (f := 94) (L1 := [some (.ref 60), some (.int q14), some (.int z18), some (.int z20)]) (st1 := [.ref 60]) (σ1 := σ) rfl h23 ?_
                refine go_e (L1 := [some (.ref 60), some (.int q14), none, some (.int z20)]) rfl rfl ?_
                refine go_n 1 (f := (108, [some (.ref 60), some (.int q14), none, some (.int z20)], [.int 0, .ref 60], σ)) rfl ?_
                refine go_e (L1 := [some (.ref 60), some (.int q14), none, some (.int z20)]) rfl rfl ?_
                simp only [if_neg h21, if_pos h23] at hJ36
                first | exact hJ36 | (simp only [if_neg h21, if_pos h23]; exact hJ36)
              · refine go_if (t := 107) (f := 94) (L1 := [some (.ref 60), some (.int q14), some (.int z18), some (.int z20)]) (st1 := [.ref 60]) (σ1 := σ) rfl h23 ?_
                refine go_e (L1 := [some (.ref 60), some (.int q14), none, some (.int z20)]) rfl rfl ?_
                refine go_n 3 (f := (100, [some (.ref 60), some (.int q14), none, some (.int z20)], [.int 60, .int (gi σ 60 26), .ref 60], σ)) rfl ?_
                by_cases h24 : 60 ≤ (gi σ 60 26)
                · refine go_it (t := 107) (f := 103) (L1 := [some (.ref 60), some (.int q14), none, some (.int z20)]) (st1 := [.ref 60]) (σ1 := σ) rfl h24 ?_
                  refine go_n 1 (f := (108, [some (.ref 60), some (.int q14), none, some (.int z20)], [.int 0, .ref 60], σ)) rfl ?_
                  refine go_e (L1 := [some (.ref 60), some (.int q14), none, some (.int z20)]) rfl rfl ?_
                  simp only [if_neg h21, if_neg h23, if_pos h24] at hJ36
                  first | exact hJ36 | (simp only [if_neg h21, if_neg h23, if_pos h24]; exact hJ36)
                · refine go_if (t := 107) (f := 103) (L1 := [some (.ref 60), some (.int q14), none, some (.int z20)]) (st1 := [.ref 60]) (σ1 := σ) rfl h24 ?_
                  refine go_n 2 (f := (108, [some (.ref 60), some (.int q14), none, some (.int z20)], [.int 1, .ref 60], σ)) rfl ?_
                  refine go_e (L1 := [some (.ref 60), some (.int q14), none, some (.int z20)]) rfl rfl ?_
                  simp only [if_neg h21, if_neg h23, if_neg h24] at hJ36
                  first | exact hJ36 | (simp only [if_neg h21, if_neg h23, if_neg h24]; exact hJ36)
        · by_cases h19 : z18 = 0
          · refine go_it (t := 82) (f := 74) (L1 := [some (.ref 60), some (.int q14), some (.int z18), none]) (st1 := []) (σ1 := σ) rfl h19 ?_
            refine go_n 1 (f := (83, [some (.ref 60), some (.int q14), some (.int z18), none], [.int 0], σ)) rfl ?_
            refine go_e (L1 := [some (.ref 60), some (.int q14), some (.int z18), none]) rfl rfl ?_
            simp only [if_pos h19] at hJ37
            first | exact hJ37 | (simp only [if_pos h19]; exact hJ37)
          · refine go_if (t := 82) (f := 74) (L1 := [some (.ref 60), some (.int q14), some (.int z18), none]) (st1 := []) (σ1 := σ) rfl h19 ?_
            refine go_n 4 (f := (83, [some (.ref 60), some (.int q14), some (.int z18), none], [.int (gl σ 60 18).toInt32], σ)) rfl ?_
            refine go_e (L1 := [some (.ref 60), some (.int q14), some (.int z18), none]) rfl rfl ?_
            simp only [if_neg h19] at hJ37
            first | exact hJ37 | (simp only [if_neg h19]; exact hJ37)
      · by_cases h16 : (gi σ 60 17) ≠ 2
        · refine go_it (t := 68) (f := 53) (L1 := [some (.ref 60), some (.int q14), none, none]) (st1 := []) (σ1 := σ) rfl h16 ?_
          refine go_n 1 (f := (69, [some (.ref 60), some (.int q14), none, none], [.int 0], σ)) rfl ?_
          refine go_e (L1 := [some (.ref 60), some (.int q14), none, none]) rfl rfl ?_
          simp only [if_pos h16] at hJ38
          first | exact hJ38 | (simp only [if_pos h16]; exact hJ38)
        · refine go_if (t := 68) (f := 53) (L1 := [some (.ref 60), some (.int q14), none, none]) (st1 := []) (σ1 := σ) rfl h16 ?_
          refine go_n 4 (f := (61, [some (.ref 60), some (.int q14), none, none], [.int (lg_cmp (gl σ 60 18) 10000)], σ)) rfl ?_
          by_cases h17 : 10000 < (gl σ 60 18)
          · refine go_it (t := 68) (f := 64) (L1 := [some (.ref 60), some (.int q14), none, none]) (st1 := []) (σ1 := σ) rfl ((lgc_gt (gl σ 60 18) 10000).mpr h17) ?_
            refine go_n 1 (f := (69, [some (.ref 60), some (.int q14), none, none], [.int 0], σ)) rfl ?_
            refine go_e (L1 := [some (.ref 60), some (.int q14), none, none]) rfl rfl ?_
            simp only [if_neg h16, if_pos h17] at hJ38
            first | exact hJ38 | (simp only [if_neg h16, if_pos h17]; exact hJ38)
          · refine go_if (t := 68) (f := 64) (L1 := [some (.ref 60), some (.int q14), none, none]) (st1 := []) (σ1 := σ) rfl (fun q => h17 ((lgc_gt (gl σ 60 18) 10000).mp q)) ?_
            refine go_n 2 (f := (69, [some (.ref 60), some (.int q14), none, none], [.int 1], σ)) rfl ?_
            refine go_e (L1 := [some (.ref 60), some (.int q14), none, none]) rfl rfl ?_
            simp only [if_neg h16, if_neg h17] at hJ38
            first | exact hJ38 | (simp only [if_neg h16, if_neg h17]; exact hJ38)
    · rw [if_neg h13] at hf
      refine go_if (t := 40) (f := 18) (L1 := [some (.ref 60), none, none, none]) (st1 := []) (σ1 := σ) rfl h13 ?_
      exact fX7_readPart_J18_ok   _  _ hf
/-! OldWeatherModel.findAllDays()V -/
def fX7_findAllDays_L2   (rec2 : (Int32 × Sg) → Option Sg) (s : Int32 × Sg) : Option Sg :=
  match s with
  | (x1, σ) => if (gi σ 61 2) ≤ x1 then some σ else (fX7_findDays x1 σ).bind fun q2 => if inb x1 200 then if inb x1 200 then rec2 ((x1 + 1), (wi (wi q2 64 x1.toNatClampNeg (gi q2 60 9)) 65 x1.toNatClampNeg (gi q2 60 8))) else none else none
set_option maxHeartbeats 1500000 in
theorem fX7_findAllDays_L2_ok    : ∀ (n : Nat) (x1 : Int32) (σ : Sg) (r : Sg), lp (fX7_findAllDays_L2  ) n (x1, σ) = some r → Go true 4 iX7_findAllDays (2, [some (.ref 60), some (.int x1)], [], σ) (.inl none, r) := by
  intro n
  induction n with
  | zero => intro x1 σ r hf; cases hf
  | succ n ih =>
    intro x1 σ r hf
    have hf : fX7_findAllDays_L2   (lp (fX7_findAllDays_L2  ) n) (x1, σ) = some r := hf
    have hrec2 := ih
    generalize lp (fX7_findAllDays_L2  ) n = rec2 at hf hrec2
    unfold fX7_findAllDays_L2 at hf
    dsimp only at hf
    refine go_n 5 (f := (9, [some (.ref 60), some (.int x1)], [.int (gi σ 61 2), .int x1], σ)) rfl ?_
    by_cases h1 : (gi σ 61 2) ≤ x1
    · rw [if_pos h1] at hf
      refine go_it (t := 43) (f := 12) (L1 := [some (.ref 60), some (.int x1)]) (st1 := []) (σ1 := σ) rfl h1 ?_
      cases hf
      exact go_r rfl
    · rw [if_neg h1] at hf
      refine go_if (t := 43) (f := 12) (L1 := [some (.ref 60), some (.int x1)]) (st1 := []) (σ1 := σ) rfl h1 ?_
      refine go_n 2 (f := (14, [some (.ref 60), some (.int x1)], [.int x1, .ref 60], σ)) rfl ?_
      obtain ⟨q2, h3, hf⟩ := bnd hf
      refine go_c (mid := 12065) (args := [.ref 60, .int x1]) (pc := 17) (L := [some (.ref 60), some (.int x1)]) (st := []) (σ := σ) rfl ((fX7_findDays_ok _ _ q2 h3).deep (Nat.le_of_ble_eq_true rfl)) ?_
      refine go_n 5 (f := (26, [some (.ref 60), some (.int x1)], [.int (gi q2 60 9), .int x1, .ref 64], q2)) rfl ?_
      obtain ⟨h4, hf⟩ := grd hf
      refine go_iast rfl rfl rfl h4 ?_
      refine go_n 5 (f := (36, [some (.ref 60), some (.int x1)], [.int (gi q2 60 8), .int x1, .ref 65], (wi q2 64 x1.toNatClampNeg (gi q2 60 9)))) rfl ?_
      obtain ⟨h5, hf⟩ := grd hf
      refine go_iast rfl rfl rfl h5 ?_
      refine go_n 2 (f := (2, [some (.ref 60), some (.int (x1 + 1))], [], (wi (wi q2 64 x1.toNatClampNeg (gi q2 60 9)) 65 x1.toNatClampNeg (gi q2 60 8)))) rfl ?_
      exact hrec2 _ _ _ hf
def fX7_findAllDays  (σ : Sg) : Option Sg :=
  lp (fX7_findAllDays_L2  ) N0 (0, σ)
set_option maxHeartbeats 1500000 in
theorem fX7_findAllDays_ok  (σ : Sg) (r : Sg) (hf : fX7_findAllDays  σ = some r) : Cl true 4 12108 [.ref 60] σ (.inl none, r) := by
  refine ⟨iX7_findAllDays, rfl, Nat.le_of_ble_eq_true rfl, Nat.le_of_ble_eq_true rfl, ?_⟩
  show Go true 4 iX7_findAllDays (0, [some (.ref 60), none], [], σ) (.inl none, r)
  unfold fX7_findAllDays at hf
  refine go_n 2 (f := (2, [some (.ref 60), some (.int 0)], [], σ)) rfl ?_
  exact fX7_findAllDays_L2_ok    N0 _ _ _ hf
/-! OldWeatherModel.holds(II)Z -/
def fX7_holds_J62 (x1 : Int32) (x2 : Int32)  (σ : Sg) : Option (Int32 × Sg) :=
  if inb (x2 + 4) 39698 then if inb (x2 + 5) 39698 then (fX7_run x1 (gi σ 61 (x2 + 4).toNatClampNeg) (gi σ 61 (x2 + 5).toNatClampNeg) σ).bind fun q6 => if (gi q6 60 36) = 0 then if inb (x2 + 6) 39698 then if inb (x2 + 7) 39698 then (fX7_run x1 (gi q6 61 (x2 + 6).toNatClampNeg) (gi q6 61 (x2 + 7).toNatClampNeg) (wl q6 60 38 (gl q6 60 37))).bind fun q11 => ((fun (z14 : Int32) => some (z14, (wl q11 60 39 (gl q11 60 37)))) ((if (gi q11 60 36) ≠ 0 then 0 else 1) : Int32)) else none else none else some (0, (wl q6 60 38 (gl q6 60 37))) else none else none
set_option maxHeartbeats 1500000 in
theorem fX7_holds_J62_ok (x1 : Int32) (x2 : Int32)  (σ : Sg)  (r : (Int32 × Sg)) (hf : fX7_holds_J62 x1 x2  σ = some r) : Go true 2 iX7_holds (62, [some (.ref 60), some (.int x1), some (.int x2)], [], σ) (.inl (some (.int (r).1)), (r).2) := by
  unfold fX7_holds_J62 at hf
  refine go_n 7 (f := (71, [some (.ref 60), some (.int x1), some (.int x2)], [.int (x2 + 4), .ref 61, .int x1, .ref 60], σ)) rfl ?_
  obtain ⟨h4, hf⟩ := grd hf
  refine go_iald rfl rfl rfl h4 ?_
  refine go_n 5 (f := (79, [some (.ref 60), some (.int x1), some (.int x2)], [.int (x2 + 5), .ref 61, .int (gi σ 61 (x2 + 4).toNatClampNeg), .int x1, .ref 60], σ)) rfl ?_
  obtain ⟨h5, hf⟩ := grd hf
  refine go_iald rfl rfl rfl h5 ?_
  obtain ⟨q6, h7, hf⟩ := bnd hf
  refine go_c (mid := 12123) (args := [.ref 60, .int x1, .int (gi σ 61 (x2 + 4).toNatClampNeg), .int (gi σ 61 (x2 + 5).toNatClampNeg)]) (pc := 83) (L := [some (.ref 60), some (.int x1), some (.int x2)]) (st := []) (σ := σ) rfl ((fX7_run_ok _ _ _ _ q6 h7).deep (Nat.le_of_ble_eq_true rfl)) ?_
  refine go_n 6 (f := (95, [some (.ref 60), some (.int x1), some (.int x2)], [.int (gi q6 60 36)], (wl q6 60 38 (gl q6 60 37)))) rfl ?_
  by_cases h8 : (gi q6 60 36) = 0
  · rw [if_pos h8] at hf
    refine go_it (t := 100) (f := 98) (L1 := [some (.ref 60), some (.int x1), some (.int x2)]) (st1 := []) (σ1 := (wl q6 60 38 (gl q6 60 37))) rfl h8 ?_
    refine go_n 7 (f := (110, [some (.ref 60), some (.int x1), some (.int x2)], [.int (x2 + 6), .ref 61, .int x1, .ref 60], (wl q6 60 38 (gl q6 60 37)))) rfl ?_
    obtain ⟨h9, hf⟩ := grd hf
    refine go_iald rfl rfl rfl h9 ?_
    refine go_n 5 (f := (119, [some (.ref 60), some (.int x1), some (.int x2)], [.int (x2 + 7), .ref 61, .int (gi q6 61 (x2 + 6).toNatClampNeg), .int x1, .ref 60], (wl q6 60 38 (gl q6 60 37)))) rfl ?_
    obtain ⟨h10, hf⟩ := grd hf
    refine go_iald rfl rfl rfl h10 ?_
    obtain ⟨q11, h12, hf⟩ := bnd hf
    refine go_c (mid := 12123) (args := [.ref 60, .int x1, .int (gi q6 61 (x2 + 6).toNatClampNeg), .int (gi q6 61 (x2 + 7).toNatClampNeg)]) (pc := 123) (L := [some (.ref 60), some (.int x1), some (.int x2)]) (st := []) (σ := (wl q6 60 38 (gl q6 60 37))) rfl ((fX7_run_ok _ _ _ _ q11 h12).deep (Nat.le_of_ble_eq_true rfl)) ?_
    refine go_n 6 (f := (135, [some (.ref 60), some (.int x1), some (.int x2)], [.int (gi q11 60 36)], (wl q11 60 39 (gl q11 60 37)))) rfl ?_
    refine go_m (f := (143, [none, none, none], [.int ((if (gi q11 60 36) ≠ 0 then 0 else 1) : Int32)], (wl q11 60 39 (gl q11 60 37)))) ?_ (fun hJ15 => ?_)
    · generalize hz14 : ((if (gi q11 60 36) ≠ 0 then 0 else 1) : Int32) = z14 at hf ⊢
      have oz14 : am_ok 3 z14 = true := hz14 ▸ (okb rfl rfl)
      try dsimp only at hf
      cases hf
      exact go_ret rfl rfl (Or.inr (Or.inl ⟨rfl, oz14⟩))
    · by_cases h13 : (gi q11 60 36) ≠ 0
      · refine go_it (t := 142) (f := 138) (L1 := [some (.ref 60), some (.int x1), some (.int x2)]) (st1 := []) (σ1 := (wl q11 60 39 (gl q11 60 37))) rfl h13 ?_
        refine go_n 1 (f := (143, [some (.ref 60), some (.int x1), some (.int x2)], [.int 0], (wl q11 60 39 (gl q11 60 37)))) rfl ?_
        refine go_e (L1 := [none, none, none]) rfl rfl ?_
        simp only [if_pos h13] at hJ15
        first | exact hJ15 | (simp only [if_pos h13]; exact hJ15)
      · refine go_if (t := 142) (f := 138) (L1 := [some (.ref 60), some (.int x1), some (.int x2)]) (st1 := []) (σ1 := (wl q11 60 39 (gl q11 60 37))) rfl h13 ?_
        refine go_n 2 (f := (143, [some (.ref 60), some (.int x1), some (.int x2)], [.int 1], (wl q11 60 39 (gl q11 60 37)))) rfl ?_
        refine go_e (L1 := [none, none, none]) rfl rfl ?_
        simp only [if_neg h13] at hJ15
        first | exact hJ15 | (simp only [if_neg h13]; exact hJ15)
  · rw [if_neg h8] at hf
    refine go_if (t := 100) (f := 98) (L1 := [some (.ref 60), some (.int x1), some (.int x2)]) (st1 := []) (σ1 := (wl q6 60 38 (gl q6 60 37))) rfl h8 ?_
    refine go_n 1 (f := (99, [some (.ref 60), some (.int x1), some (.int x2)], [.int 0], (wl q6 60 38 (gl q6 60 37)))) rfl ?_
    cases hf
    exact go_r rfl
def fX7_holds (x1 : Int32) (x2 : Int32) (σ : Sg) : Option (Int32 × Sg) :=
  if inb (x2 + 8) 39698 then if inb (x2 + 9) 39698 then if (gi σ 61 (x2 + 9).toNatClampNeg) ≤ (gi σ 61 (x2 + 8).toNatClampNeg) then fX7_holds_J62 x1 x2  σ else if inb (x2 + 8) 39698 then if inb (x2 + 9) 39698 then (fX7_run x1 (gi σ 61 (x2 + 8).toNatClampNeg) (gi σ 61 (x2 + 9).toNatClampNeg) σ).bind fun q18 => if (gi q18 60 36) ≠ 0 then some (0, q18) else if (gl q18 60 37) ≠ 0 then fX7_holds_J62 x1 x2  q18 else some (0, q18) else none else none else none else none
set_option maxHeartbeats 1500000 in
theorem fX7_holds_ok (x1 : Int32) (x2 : Int32) (σ : Sg) (r : (Int32 × Sg)) (hf : fX7_holds x1 x2 σ = some r) : Cl true 2 12122 [.ref 60, .int x1, .int x2] σ (.inl (some (.int (r).1)), (r).2) := by
  refine ⟨iX7_holds, rfl, Nat.le_of_ble_eq_true rfl, Nat.le_of_ble_eq_true rfl, ?_⟩
  show Go true 2 iX7_holds (0, [some (.ref 60), some (.int x1), some (.int x2)], [], σ) (.inl (some (.int (r).1)), (r).2)
  unfold fX7_holds at hf
  refine go_n 5 (f := (8, [some (.ref 60), some (.int x1), some (.int x2)], [.int (x2 + 8), .ref 61], σ)) rfl ?_
  obtain ⟨h1, hf⟩ := grd hf
  refine go_iald rfl rfl rfl h1 ?_
  refine go_n 5 (f := (17, [some (.ref 60), some (.int x1), some (.int x2)], [.int (x2 + 9), .ref 61, .int (gi σ 61 (x2 + 8).toNatClampNeg)], σ)) rfl ?_
  obtain ⟨h2, hf⟩ := grd hf
  refine go_iald rfl rfl rfl h2 ?_
  by_cases h3 : (gi σ 61 (x2 + 9).toNatClampNeg) ≤ (gi σ 61 (x2 + 8).toNatClampNeg)
  · rw [if_pos h3] at hf
    refine go_it (t := 62) (f := 21) (L1 := [some (.ref 60), some (.int x1), some (.int x2)]) (st1 := []) (σ1 := σ) rfl h3 ?_
    exact fX7_holds_J62_ok _ _  _  _ hf
  · rw [if_neg h3] at hf
    refine go_if (t := 62) (f := 21) (L1 := [some (.ref 60), some (.int x1), some (.int x2)]) (st1 := []) (σ1 := σ) rfl h3 ?_
    refine go_n 7 (f := (31, [some (.ref 60), some (.int x1), some (.int x2)], [.int (x2 + 8), .ref 61, .int x1, .ref 60], σ)) rfl ?_
    obtain ⟨h16, hf⟩ := grd hf
    refine go_iald rfl rfl rfl h16 ?_
    refine go_n 5 (f := (40, [some (.ref 60), some (.int x1), some (.int x2)], [.int (x2 + 9), .ref 61, .int (gi σ 61 (x2 + 8).toNatClampNeg), .int x1, .ref 60], σ)) rfl ?_
    obtain ⟨h17, hf⟩ := grd hf
    refine go_iald rfl rfl rfl h17 ?_
    obtain ⟨q18, h19, hf⟩ := bnd hf
    refine go_c (mid := 12123) (args := [.ref 60, .int x1, .int (gi σ 61 (x2 + 8).toNatClampNeg), .int (gi σ 61 (x2 + 9).toNatClampNeg)]) (pc := 44) (L := [some (.ref 60), some (.int x1), some (.int x2)]) (st := []) (σ := σ) rfl ((fX7_run_ok _ _ _ _ q18 h19).deep (Nat.le_of_ble_eq_true rfl)) ?_
    refine go_n 2 (f := (48, [some (.ref 60), some (.int x1), some (.int x2)], [.int (gi q18 60 36)], q18)) rfl ?_
    by_cases h20 : (gi q18 60 36) ≠ 0
    · rw [if_pos h20] at hf
      refine go_it (t := 60) (f := 51) (L1 := [some (.ref 60), some (.int x1), some (.int x2)]) (st1 := []) (σ1 := q18) rfl h20 ?_
      refine go_e (L1 := [none, none, none]) rfl rfl ?_
      refine go_n 1 (f := (61, [none, none, none], [.int 0], q18)) rfl ?_
      cases hf
      exact go_r rfl
    · rw [if_neg h20] at hf
      refine go_if (t := 60) (f := 51) (L1 := [some (.ref 60), some (.int x1), some (.int x2)]) (st1 := []) (σ1 := q18) rfl h20 ?_
      refine go_n 4 (f := (57, [some (.ref 60), some (.int x1), some (.int x2)], [.int (lg_cmp (gl q18 60 37) 0)], q18)) rfl ?_
      by_cases h21 : (gl q18 60 37) ≠ 0
      · rw [if_pos h21] at hf
        refine go_it (t := 62) (f := 60) (L1 := [some (.ref 60), some (.int x1), some (.int x2)]) (st1 := []) (σ1 := q18) rfl ((lgc_ne (gl q18 60 37) 0).mpr h21) ?_
        exact fX7_holds_J62_ok _ _  _  _ hf
      · rw [if_neg h21] at hf
        refine go_if (t := 62) (f := 60) (L1 := [some (.ref 60), some (.int x1), some (.int x2)]) (st1 := []) (σ1 := q18) rfl (fun q => h21 ((lgc_ne (gl q18 60 37) 0).mp q)) ?_
        refine go_e (L1 := [none, none, none]) rfl rfl ?_
        refine go_n 1 (f := (61, [none, none, none], [.int 0], q18)) rfl ?_
        cases hf
        exact go_r rfl
/-! OldWeatherModel.gaugeBy(II)I -/
def fX7_gaugeBy_J109 (x1 : Int32) (x2 : Int32) (x3 : Int32) (x4 : Int32) (x5 : Int32) (rec15 : (Int32 × Int32 × Int32 × Sg) → Option (Int32 × Sg)) (σ : Sg) : Option (Int32 × Sg) :=
  rec15 (x3, x4, (x5 + (-1)), σ)
set_option maxHeartbeats 1500000 in
theorem fX7_gaugeBy_J109_ok (x1 : Int32) (x2 : Int32) (x3 : Int32) (x4 : Int32) (x5 : Int32) (rec15 : (Int32 × Int32 × Int32 × Sg) → Option (Int32 × Sg)) (σ : Sg) (hrec15 : ∀ (y3 : Int32) (y4 : Int32) (y5 : Int32) (τ : Sg) (r : (Int32 × Sg)), rec15 (y3, y4, y5, τ) = some r → Go true 3 iX7_gaugeBy (15, [some (.ref 60), some (.int x1), some (.int x2), some (.int y3), some (.int y4), some (.int y5)], [], τ) (.inl (some (.int (r).1)), (r).2)) (r : (Int32 × Sg)) (hf : fX7_gaugeBy_J109 x1 x2 x3 x4 x5 rec15 σ = some r) : Go true 3 iX7_gaugeBy (109, [some (.ref 60), some (.int x1), some (.int x2), some (.int x3), some (.int x4), some (.int x5)], [], σ) (.inl (some (.int (r).1)), (r).2) := by
  unfold fX7_gaugeBy_J109 at hf
  refine go_n 2 (f := (15, [some (.ref 60), some (.int x1), some (.int x2), some (.int x3), some (.int x4), some (.int (x5 + (-1)))], [], σ)) rfl ?_
  exact hrec15 _ _ _ _ _ hf
def fX7_gaugeBy_L15 (x1 : Int32) (x2 : Int32)  (rec15 : (Int32 × Int32 × Int32 × Sg) → Option (Int32 × Sg)) (s : Int32 × Int32 × Int32 × Sg) : Option (Int32 × Sg) :=
  match s with
  | (x3, x4, x5, σ) => if x5 < 0 then ((fun (z3 : Int32) => some (z3, σ)) (if x3 = (-1) then x4 else x3)) else (fX7_get x5 0 σ).bind fun q5 => if q5 ≠ 1 then fX7_gaugeBy_J109 x1 x2 x3 x4 x5 rec15 σ else (fX7_isTold x5 σ).bind fun q8 => if q8 = 0 then fX7_gaugeBy_J109 x1 x2 x3 x4 x5 rec15 σ else (fX7_isSure x5 σ).bind fun q11 => if q11.1 = 0 then fX7_gaugeBy_J109 x1 x2 x3 x4 x5 rec15 q11.2 else if (gi q11.2 60 9) ≠ x2 then fX7_gaugeBy_J109 x1 x2 x3 x4 x5 rec15 q11.2 else (fX7_sourceOf x5 q11.2).bind fun q15 => (fX7_handOf q15 q11.2).bind fun q17 => (fX7_sourceOf x1 q11.2).bind fun q19 => (fX7_handOf q19 q11.2).bind fun q21 => ((fun (z24 : Int32) => (fX7_at x5 q11.2).bind fun q25 => (fX7_at x1 q11.2).bind fun q27 => ((fun (z30 : Int32) => fX7_gaugeBy_J109 x1 x2 z24 z30 x5 rec15 q11.2) (if q25 ≠ q27 then x4 else x5))) (if q17 ≠ q21 then x3 else x5))
set_option maxHeartbeats 1500000 in
theorem fX7_gaugeBy_L15_ok (x1 : Int32) (x2 : Int32)   : ∀ (n : Nat) (x3 : Int32) (x4 : Int32) (x5 : Int32) (σ : Sg) (r : (Int32 × Sg)), lp (fX7_gaugeBy_L15 x1 x2 ) n (x3, x4, x5, σ) = some r → Go true 3 iX7_gaugeBy (15, [some (.ref 60), some (.int x1), some (.int x2), some (.int x3), some (.int x4), some (.int x5)], [], σ) (.inl (some (.int (r).1)), (r).2) := by
  intro n
  induction n with
  | zero => intro x3 x4 x5 σ r hf; cases hf
  | succ n ih =>
    intro x3 x4 x5 σ r hf
    have hf : fX7_gaugeBy_L15 x1 x2  (lp (fX7_gaugeBy_L15 x1 x2 ) n) (x3, x4, x5, σ) = some r := hf
    have hrec15 := ih
    generalize lp (fX7_gaugeBy_L15 x1 x2 ) n = rec15 at hf hrec15
    unfold fX7_gaugeBy_L15 at hf
    dsimp only at hf
    refine go_n 1 (f := (17, [some (.ref 60), some (.int x1), some (.int x2), some (.int x3), some (.int x4), some (.int x5)], [.int x5], σ)) rfl ?_
    by_cases h1 : x5 < 0
    · rw [if_pos h1] at hf
      refine go_it (t := 115) (f := 20) (L1 := [some (.ref 60), some (.int x1), some (.int x2), some (.int x3), some (.int x4), some (.int x5)]) (st1 := []) (σ1 := σ) rfl h1 ?_
      refine go_n 2 (f := (117, [some (.ref 60), some (.int x1), some (.int x2), some (.int x3), some (.int x4), some (.int x5)], [.int (-1), .int x3], σ)) rfl ?_
      refine go_m (f := (126, [none, none, none, none, none, none], [.int (if x3 = (-1) then x4 else x3)], σ)) ?_ (fun hJ4 => ?_)
      · generalize hz3 : (if x3 = (-1) then x4 else x3) = z3 at hf ⊢
        try dsimp only at hf
        cases hf
        exact go_r rfl
      · by_cases h2 : x3 = (-1)
        · refine go_it (t := 124) (f := 120) (L1 := [some (.ref 60), some (.int x1), some (.int x2), some (.int x3), some (.int x4), some (.int x5)]) (st1 := []) (σ1 := σ) rfl h2 ?_
          refine go_n 1 (f := (126, [some (.ref 60), some (.int x1), some (.int x2), some (.int x3), some (.int x4), some (.int x5)], [.int x4], σ)) rfl ?_
          refine go_e (L1 := [none, none, none, none, none, none]) rfl rfl ?_
          simp only [if_pos h2] at hJ4
          first | exact hJ4 | (simp only [if_pos h2]; exact hJ4)
        · refine go_if (t := 124) (f := 120) (L1 := [some (.ref 60), some (.int x1), some (.int x2), some (.int x3), some (.int x4), some (.int x5)]) (st1 := []) (σ1 := σ) rfl h2 ?_
          refine go_n 2 (f := (126, [some (.ref 60), some (.int x1), some (.int x2), some (.int x3), some (.int x4), some (.int x5)], [.int x3], σ)) rfl ?_
          refine go_e (L1 := [none, none, none, none, none, none]) rfl rfl ?_
          simp only [if_neg h2] at hJ4
          first | exact hJ4 | (simp only [if_neg h2]; exact hJ4)
    · rw [if_neg h1] at hf
      refine go_if (t := 115) (f := 20) (L1 := [some (.ref 60), some (.int x1), some (.int x2), some (.int x3), some (.int x4), some (.int x5)]) (st1 := []) (σ1 := σ) rfl h1 ?_
      refine go_n 3 (f := (24, [some (.ref 60), some (.int x1), some (.int x2), some (.int x3), some (.int x4), some (.int x5)], [.int 0, .int x5, .ref 60], σ)) rfl ?_
      obtain ⟨q5, h6, hf⟩ := bnd hf
      refine go_c (mid := 12067) (args := [.ref 60, .int x5, .int 0]) (pc := 27) (L := [some (.ref 60), some (.int x1), some (.int x2), some (.int x3), some (.int x4), some (.int x5)]) (st := []) (σ := σ) rfl ((fX7_get_ok _ _ _ q5 h6).deep (Nat.le_of_ble_eq_true rfl)) ?_
      refine go_n 1 (f := (28, [some (.ref 60), some (.int x1), some (.int x2), some (.int x3), some (.int x4), some (.int x5)], [.int 1, .int q5], σ)) rfl ?_
      by_cases h7 : q5 ≠ 1
      · rw [if_pos h7] at hf
        refine go_it (t := 109) (f := 31) (L1 := [some (.ref 60), some (.int x1), some (.int x2), some (.int x3), some (.int x4), some (.int x5)]) (st1 := []) (σ1 := σ) rfl h7 ?_
        exact fX7_gaugeBy_J109_ok _ _ _ _ _ _ _ hrec15 _ hf
      · rw [if_neg h7] at hf
        refine go_if (t := 109) (f := 31) (L1 := [some (.ref 60), some (.int x1), some (.int x2), some (.int x3), some (.int x4), some (.int x5)]) (st1 := []) (σ1 := σ) rfl h7 ?_
        refine go_n 2 (f := (34, [some (.ref 60), some (.int x1), some (.int x2), some (.int x3), some (.int x4), some (.int x5)], [.int x5, .ref 60], σ)) rfl ?_
        obtain ⟨q8, h9, hf⟩ := bnd hf
        refine go_c (mid := 12115) (args := [.ref 60, .int x5]) (pc := 37) (L := [some (.ref 60), some (.int x1), some (.int x2), some (.int x3), some (.int x4), some (.int x5)]) (st := []) (σ := σ) rfl ((fX7_isTold_ok _ _ q8 h9).deep (Nat.le_of_ble_eq_true rfl)) ?_
        by_cases h10 : q8 = 0
        · rw [if_pos h10] at hf
          refine go_it (t := 109) (f := 40) (L1 := [some (.ref 60), some (.int x1), some (.int x2), some (.int x3), some (.int x4), some (.int x5)]) (st1 := []) (σ1 := σ) rfl h10 ?_
          exact fX7_gaugeBy_J109_ok _ _ _ _ _ _ _ hrec15 _ hf
        · rw [if_neg h10] at hf
          refine go_if (t := 109) (f := 40) (L1 := [some (.ref 60), some (.int x1), some (.int x2), some (.int x3), some (.int x4), some (.int x5)]) (st1 := []) (σ1 := σ) rfl h10 ?_
          refine go_n 2 (f := (43, [some (.ref 60), some (.int x1), some (.int x2), some (.int x3), some (.int x4), some (.int x5)], [.int x5, .ref 60], σ)) rfl ?_
          obtain ⟨q11, h12, hf⟩ := bnd hf
          refine go_c (mid := 12130) (args := [.ref 60, .int x5]) (pc := 46) (L := [some (.ref 60), some (.int x1), some (.int x2), some (.int x3), some (.int x4), some (.int x5)]) (st := []) (σ := σ) rfl ((fX7_isSure_ok _ _ q11 h12).deep (Nat.le_of_ble_eq_true rfl)) ?_
          by_cases h13 : q11.1 = 0
          · rw [if_pos h13] at hf
            refine go_it (t := 109) (f := 49) (L1 := [some (.ref 60), some (.int x1), some (.int x2), some (.int x3), some (.int x4), some (.int x5)]) (st1 := []) (σ1 := q11.2) rfl h13 ?_
            exact fX7_gaugeBy_J109_ok _ _ _ _ _ _ _ hrec15 _ hf
          · rw [if_neg h13] at hf
            refine go_if (t := 109) (f := 49) (L1 := [some (.ref 60), some (.int x1), some (.int x2), some (.int x3), some (.int x4), some (.int x5)]) (st1 := []) (σ1 := q11.2) rfl h13 ?_
            refine go_n 3 (f := (54, [some (.ref 60), some (.int x1), some (.int x2), some (.int x3), some (.int x4), some (.int x5)], [.int x2, .int (gi q11.2 60 9)], q11.2)) rfl ?_
            by_cases h14 : (gi q11.2 60 9) ≠ x2
            · rw [if_pos h14] at hf
              refine go_it (t := 109) (f := 57) (L1 := [some (.ref 60), some (.int x1), some (.int x2), some (.int x3), some (.int x4), some (.int x5)]) (st1 := []) (σ1 := q11.2) rfl h14 ?_
              exact fX7_gaugeBy_J109_ok _ _ _ _ _ _ _ hrec15 _ hf
            · rw [if_neg h14] at hf
              refine go_if (t := 109) (f := 57) (L1 := [some (.ref 60), some (.int x1), some (.int x2), some (.int x3), some (.int x4), some (.int x5)]) (st1 := []) (σ1 := q11.2) rfl h14 ?_
              refine go_n 3 (f := (61, [some (.ref 60), some (.int x1), some (.int x2), some (.int x3), some (.int x4), some (.int x5)], [.int x5, .ref 60, .ref 60], q11.2)) rfl ?_
              obtain ⟨q15, h16, hf⟩ := bnd hf
              refine go_c (mid := 12066) (args := [.ref 60, .int x5]) (pc := 64) (L := [some (.ref 60), some (.int x1), some (.int x2), some (.int x3), some (.int x4), some (.int x5)]) (st := [.ref 60]) (σ := q11.2) rfl ((fX7_sourceOf_ok _ _ q15 h16).deep (Nat.le_of_ble_eq_true rfl)) ?_
              obtain ⟨q17, h18, hf⟩ := bnd hf
              refine go_c (mid := 12121) (args := [.ref 60, .int q15]) (pc := 67) (L := [some (.ref 60), some (.int x1), some (.int x2), some (.int x3), some (.int x4), some (.int x5)]) (st := []) (σ := q11.2) rfl ((fX7_handOf_ok _ _ q17 h18).deep (Nat.le_of_ble_eq_true rfl)) ?_
              refine go_n 3 (f := (70, [some (.ref 60), some (.int x1), some (.int x2), some (.int x3), some (.int x4), some (.int x5)], [.int x1, .ref 60, .ref 60, .int q17], q11.2)) rfl ?_
              obtain ⟨q19, h20, hf⟩ := bnd hf
              refine go_c (mid := 12066) (args := [.ref 60, .int x1]) (pc := 73) (L := [some (.ref 60), some (.int x1), some (.int x2), some (.int x3), some (.int x4), some (.int x5)]) (st := [.ref 60, .int q17]) (σ := q11.2) rfl ((fX7_sourceOf_ok _ _ q19 h20).deep (Nat.le_of_ble_eq_true rfl)) ?_
              obtain ⟨q21, h22, hf⟩ := bnd hf
              refine go_c (mid := 12121) (args := [.ref 60, .int q19]) (pc := 76) (L := [some (.ref 60), some (.int x1), some (.int x2), some (.int x3), some (.int x4), some (.int x5)]) (st := [.int q17]) (σ := q11.2) rfl ((fX7_handOf_ok _ _ q21 h22).deep (Nat.le_of_ble_eq_true rfl)) ?_
              refine go_m (f := (85, [some (.ref 60), some (.int x1), some (.int x2), none, some (.int x4), some (.int x5)], [.int (if q17 ≠ q21 then x3 else x5)], q11.2)) ?_ (fun hJ32 => ?_)
              · generalize hz24 : (if q17 ≠ q21 then x3 else x5) = z24 at hf ⊢
                try dsimp only at hf
                refine go_n 3 (f := (89, [some (.ref 60), some (.int x1), some (.int x2), some (.int z24), some (.int x4), some (.int x5)], [.int x5, .ref 60], q11.2)) rfl ?_
                obtain ⟨q25, h26, hf⟩ := bnd hf
                refine go_c (mid := 12132) (args := [.ref 60, .int x5]) (pc := 92) (L := [some (.ref 60), some (.int x1), some (.int x2), some (.int z24), some (.int x4), some (.int x5)]) (st := []) (σ := q11.2) rfl ((fX7_at_ok _ _ q25 h26).deep (Nat.le_of_ble_eq_true rfl)) ?_
                refine go_n 2 (f := (94, [some (.ref 60), some (.int x1), some (.int x2), some (.int z24), some (.int x4), some (.int x5)], [.int x1, .ref 60, .int q25], q11.2)) rfl ?_
                obtain ⟨q27, h28, hf⟩ := bnd hf
                refine go_c (mid := 12132) (args := [.ref 60, .int x1]) (pc := 97) (L := [some (.ref 60), some (.int x1), some (.int x2), some (.int z24), some (.int x4), some (.int x5)]) (st := [.int q25]) (σ := q11.2) rfl ((fX7_at_ok _ _ q27 h28).deep (Nat.le_of_ble_eq_true rfl)) ?_
                refine go_m (f := (107, [some (.ref 60), some (.int x1), some (.int x2), some (.int z24), none, some (.int x5)], [.int (if q25 ≠ q27 then x4 else x5)], q11.2)) ?_ (fun hJ31 => ?_)
                · generalize hz30 : (if q25 ≠ q27 then x4 else x5) = z30 at hf ⊢
                  try dsimp only at hf
                  refine go_n 1 (f := (109, [some (.ref 60), some (.int x1), some (.int x2), some (.int z24), some (.int z30), some (.int x5)], [], q11.2)) rfl ?_
                  exact fX7_gaugeBy_J109_ok _ _ _ _ _ _ _ hrec15 _ hf
                · by_cases h29 : q25 ≠ q27
                  · refine go_it (t := 105) (f := 100) (L1 := [some (.ref 60), some (.int x1), some (.int x2), some (.int z24), some (.int x4), some (.int x5)]) (st1 := []) (σ1 := q11.2) rfl h29 ?_
                    refine go_n 1 (f := (107, [some (.ref 60), some (.int x1), some (.int x2), some (.int z24), some (.int x4), some (.int x5)], [.int x4], q11.2)) rfl ?_
                    refine go_e (L1 := [some (.ref 60), some (.int x1), some (.int x2), some (.int z24), none, some (.int x5)]) rfl rfl ?_
                    simp only [if_pos h29] at hJ31
                    first | exact hJ31 | (simp only [if_pos h29]; exact hJ31)
                  · refine go_if (t := 105) (f := 100) (L1 := [some (.ref 60), some (.int x1), some (.int x2), some (.int z24), some (.int x4), some (.int x5)]) (st1 := []) (σ1 := q11.2) rfl h29 ?_
                    refine go_n 2 (f := (107, [some (.ref 60), some (.int x1), some (.int x2), some (.int z24), some (.int x4), some (.int x5)], [.int x5], q11.2)) rfl ?_
                    refine go_e (L1 := [some (.ref 60), some (.int x1), some (.int x2), some (.int z24), none, some (.int x5)]) rfl rfl ?_
                    simp only [if_neg h29] at hJ31
                    first | exact hJ31 | (simp only [if_neg h29]; exact hJ31)
              · by_cases h23 : q17 ≠ q21
                · refine go_it (t := 84) (f := 79) (L1 := [some (.ref 60), some (.int x1), some (.int x2), some (.int x3), some (.int x4), some (.int x5)]) (st1 := []) (σ1 := q11.2) rfl h23 ?_
                  refine go_n 1 (f := (85, [some (.ref 60), some (.int x1), some (.int x2), some (.int x3), some (.int x4), some (.int x5)], [.int x3], q11.2)) rfl ?_
                  refine go_e (L1 := [some (.ref 60), some (.int x1), some (.int x2), none, some (.int x4), some (.int x5)]) rfl rfl ?_
                  simp only [if_pos h23] at hJ32
                  first | exact hJ32 | (simp only [if_pos h23]; exact hJ32)
                · refine go_if (t := 84) (f := 79) (L1 := [some (.ref 60), some (.int x1), some (.int x2), some (.int x3), some (.int x4), some (.int x5)]) (st1 := []) (σ1 := q11.2) rfl h23 ?_
                  refine go_n 2 (f := (85, [some (.ref 60), some (.int x1), some (.int x2), some (.int x3), some (.int x4), some (.int x5)], [.int x5], q11.2)) rfl ?_
                  refine go_e (L1 := [some (.ref 60), some (.int x1), some (.int x2), none, some (.int x4), some (.int x5)]) rfl rfl ?_
                  simp only [if_neg h23] at hJ32
                  first | exact hJ32 | (simp only [if_neg h23]; exact hJ32)
def fX7_gaugeBy (x1 : Int32) (x2 : Int32) (σ : Sg) : Option (Int32 × Sg) :=
  lp (fX7_gaugeBy_L15 x1 x2 ) N0 ((-1), (-1), ((gi σ 61 2) - 1), σ)
set_option maxHeartbeats 1500000 in
theorem fX7_gaugeBy_ok (x1 : Int32) (x2 : Int32) (σ : Sg) (r : (Int32 × Sg)) (hf : fX7_gaugeBy x1 x2 σ = some r) : Cl true 3 12131 [.ref 60, .int x1, .int x2] σ (.inl (some (.int (r).1)), (r).2) := by
  refine ⟨iX7_gaugeBy, rfl, Nat.le_of_ble_eq_true rfl, Nat.le_of_ble_eq_true rfl, ?_⟩
  show Go true 3 iX7_gaugeBy (0, [some (.ref 60), some (.int x1), some (.int x2), none, none, none], [], σ) (.inl (some (.int (r).1)), (r).2)
  unfold fX7_gaugeBy at hf
  refine go_n 4 (f := (5, [some (.ref 60), some (.int x1), some (.int x2), some (.int (-1)), some (.int (-1)), none], [], σ)) rfl ?_
  refine go_n 7 (f := (15, [some (.ref 60), some (.int x1), some (.int x2), some (.int (-1)), some (.int (-1)), some (.int ((gi σ 61 2) - 1))], [], σ)) rfl ?_
  exact fX7_gaugeBy_L15_ok _ _   N0 _ _ _ _ _ hf
/-! OldWeatherModel.isOf(III)Z -/
def fX7_isOf (x1 : Int32) (x2 : Int32) (x3 : Int32) (σ : Sg) : Option (Int32 × Sg) :=
  (fX7_findDays x1 σ).bind fun q1 => if (gi q1 60 9) ≠ (-1) then (fX7_findDate (gi q1 60 9) 1 q1).bind fun q4 => ((fun (z8 : Int32) => some (z8, q4)) ((if (gi q4 60 5) ≠ x2 then 0 else (if (gi q4 60 6) ≠ x3 then 0 else 1)) : Int32)) else some (0, q1)
set_option maxHeartbeats 1500000 in
theorem fX7_isOf_ok (x1 : Int32) (x2 : Int32) (x3 : Int32) (σ : Sg) (r : (Int32 × Sg)) (hf : fX7_isOf x1 x2 x3 σ = some r) : Cl true 4 12174 [.ref 60, .int x1, .int x2, .int x3] σ (.inl (some (.int (r).1)), (r).2) := by
  refine ⟨iX7_isOf, rfl, Nat.le_of_ble_eq_true rfl, Nat.le_of_ble_eq_true rfl, ?_⟩
  show Go true 4 iX7_isOf (0, [some (.ref 60), some (.int x1), some (.int x2), some (.int x3)], [], σ) (.inl (some (.int (r).1)), (r).2)
  unfold fX7_isOf at hf
  refine go_n 2 (f := (2, [some (.ref 60), some (.int x1), some (.int x2), some (.int x3)], [.int x1, .ref 60], σ)) rfl ?_
  obtain ⟨q1, h2, hf⟩ := bnd hf
  refine go_c (mid := 12065) (args := [.ref 60, .int x1]) (pc := 5) (L := [some (.ref 60), some (.int x1), some (.int x2), some (.int x3)]) (st := []) (σ := σ) rfl ((fX7_findDays_ok _ _ q1 h2).deep (Nat.le_of_ble_eq_true rfl)) ?_
  refine go_n 3 (f := (10, [some (.ref 60), some (.int x1), some (.int x2), some (.int x3)], [.int (-1), .int (gi q1 60 9)], q1)) rfl ?_
  by_cases h3 : (gi q1 60 9) ≠ (-1)
  · rw [if_pos h3] at hf
    refine go_it (t := 15) (f := 13) (L1 := [some (.ref 60), some (.int x1), some (.int x2), some (.int x3)]) (st1 := []) (σ1 := q1) rfl h3 ?_
    refine go_n 4 (f := (21, [some (.ref 60), some (.int x1), some (.int x2), some (.int x3)], [.int 1, .int (gi q1 60 9), .ref 60], q1)) rfl ?_
    obtain ⟨q4, h5, hf⟩ := bnd hf
    refine go_c (mid := 12044) (args := [.ref 60, .int (gi q1 60 9), .int 1]) (pc := 24) (L := [some (.ref 60), some (.int x1), some (.int x2), some (.int x3)]) (st := []) (σ := q1) rfl ((fX7_findDate_ok _ _ _ q4 h5).deep (Nat.le_of_ble_eq_true rfl)) ?_
    refine go_n 3 (f := (29, [some (.ref 60), some (.int x1), some (.int x2), some (.int x3)], [.int x2, .int (gi q4 60 5)], q4)) rfl ?_
    refine go_m (f := (45, [none, none, none, none], [.int ((if (gi q4 60 5) ≠ x2 then 0 else (if (gi q4 60 6) ≠ x3 then 0 else 1)) : Int32)], q4)) ?_ (fun hJ9 => ?_)
    · generalize hz8 : ((if (gi q4 60 5) ≠ x2 then 0 else (if (gi q4 60 6) ≠ x3 then 0 else 1)) : Int32) = z8 at hf ⊢
      have oz8 : am_ok 3 z8 = true := hz8 ▸ (okb rfl (okb rfl rfl))
      try dsimp only at hf
      cases hf
      exact go_ret rfl rfl (Or.inr (Or.inl ⟨rfl, oz8⟩))
    · by_cases h6 : (gi q4 60 5) ≠ x2
      · refine go_it (t := 44) (f := 32) (L1 := [some (.ref 60), some (.int x1), some (.int x2), some (.int x3)]) (st1 := []) (σ1 := q4) rfl h6 ?_
        refine go_e (L1 := [none, none, none, none]) rfl rfl ?_
        refine go_n 1 (f := (45, [none, none, none, none], [.int 0], q4)) rfl ?_
        refine go_e (L1 := [none, none, none, none]) rfl rfl ?_
        simp only [if_pos h6] at hJ9
        first | exact hJ9 | (simp only [if_pos h6]; exact hJ9)
      · refine go_if (t := 44) (f := 32) (L1 := [some (.ref 60), some (.int x1), some (.int x2), some (.int x3)]) (st1 := []) (σ1 := q4) rfl h6 ?_
        refine go_n 3 (f := (37, [some (.ref 60), some (.int x1), some (.int x2), some (.int x3)], [.int x3, .int (gi q4 60 6)], q4)) rfl ?_
        by_cases h7 : (gi q4 60 6) ≠ x3
        · refine go_it (t := 44) (f := 40) (L1 := [some (.ref 60), some (.int x1), some (.int x2), some (.int x3)]) (st1 := []) (σ1 := q4) rfl h7 ?_
          refine go_e (L1 := [none, none, none, none]) rfl rfl ?_
          refine go_n 1 (f := (45, [none, none, none, none], [.int 0], q4)) rfl ?_
          refine go_e (L1 := [none, none, none, none]) rfl rfl ?_
          simp only [if_neg h6, if_pos h7] at hJ9
          first | exact hJ9 | (simp only [if_neg h6, if_pos h7]; exact hJ9)
        · refine go_if (t := 44) (f := 40) (L1 := [some (.ref 60), some (.int x1), some (.int x2), some (.int x3)]) (st1 := []) (σ1 := q4) rfl h7 ?_
          refine go_n 2 (f := (45, [some (.ref 60), some (.int x1), some (.int x2), some (.int x3)], [.int 1], q4)) rfl ?_
          refine go_e (L1 := [none, none, none, none]) rfl rfl ?_
          simp only [if_neg h6, if_neg h7] at hJ9
          first | exact hJ9 | (simp only [if_neg h6, if_neg h7]; exact hJ9)
  · rw [if_neg h3] at hf
    refine go_if (t := 15) (f := 13) (L1 := [some (.ref 60), some (.int x1), some (.int x2), some (.int x3)]) (st1 := []) (σ1 := q1) rfl h3 ?_
    refine go_n 1 (f := (14, [some (.ref 60), some (.int x1), some (.int x2), some (.int x3)], [.int 0], q1)) rfl ?_
    cases hf
    exact go_r rfl
/-! OldWeatherModel.day(IIII)I -/
def fX7_day (x1 : Int32) (x2 : Int32) (x3 : Int32) (x4 : Int32) (σ : Sg) : Option (Int32 × Sg) :=
  (fX7_in x4.toInt64 0 1).bind fun q1 => if q1 = 0 then some ((-1), (wi σ 60 0 0)) else (fX7_isDate x1 x2 x3 x4).bind fun q4 => if q4 ≠ 0 then (fX7_dayOf x1 x2 x3 x4).bind fun q7 => (fX7_isDay q7).bind fun q9 => ((fun (z12 : Int32) => some (z12, (wi σ 60 0 0))) (if q9 = 0 then (-1) else q7)) else some ((-1), (wi σ 60 0 0))
set_option maxHeartbeats 1500000 in
theorem fX7_day_ok (x1 : Int32) (x2 : Int32) (x3 : Int32) (x4 : Int32) (σ : Sg) (r : (Int32 × Sg)) (hf : fX7_day x1 x2 x3 x4 σ = some r) : Cl true 3 12037 [.ref 60, .int x1, .int x2, .int x3, .int x4] σ (.inl (some (.int (r).1)), (r).2) := by
  refine ⟨iX7_day, rfl, Nat.le_of_ble_eq_true rfl, Nat.le_of_ble_eq_true rfl, ?_⟩
  show Go true 3 iX7_day (0, [some (.ref 60), some (.int x1), some (.int x2), some (.int x3), some (.int x4), none], [], σ) (.inl (some (.int (r).1)), (r).2)
  unfold fX7_day at hf
  refine go_n 7 (f := (10, [some (.ref 60), some (.int x1), some (.int x2), some (.int x3), some (.int x4), none], [.long 1, .long 0, .long x4.toInt64], (wi σ 60 0 0))) rfl ?_
  obtain ⟨q1, h2, hf⟩ := bnd hf
  refine go_c (mid := 12034) (args := [.long x4.toInt64, .long 0, .long 1]) (pc := 13) (L := [some (.ref 60), some (.int x1), some (.int x2), some (.int x3), some (.int x4), none]) (st := []) (σ := (wi σ 60 0 0)) rfl ((fX7_in_ok _ _ _ _ q1 h2).deep (Nat.le_of_ble_eq_true rfl)) ?_
  by_cases h3 : q1 = 0
  · rw [if_pos h3] at hf
    refine go_it (t := 27) (f := 16) (L1 := [some (.ref 60), some (.int x1), some (.int x2), some (.int x3), some (.int x4), none]) (st1 := []) (σ1 := (wi σ 60 0 0)) rfl h3 ?_
    refine go_e (L1 := [none, none, none, none, none, none]) rfl rfl ?_
    refine go_n 1 (f := (28, [none, none, none, none, none, none], [.int (-1)], (wi σ 60 0 0))) rfl ?_
    cases hf
    exact go_r rfl
  · rw [if_neg h3] at hf
    refine go_if (t := 27) (f := 16) (L1 := [some (.ref 60), some (.int x1), some (.int x2), some (.int x3), some (.int x4), none]) (st1 := []) (σ1 := (wi σ 60 0 0)) rfl h3 ?_
    refine go_n 4 (f := (21, [some (.ref 60), some (.int x1), some (.int x2), some (.int x3), some (.int x4), none], [.int x4, .int x3, .int x2, .int x1], (wi σ 60 0 0))) rfl ?_
    obtain ⟨q4, h5, hf⟩ := bnd hf
    refine go_c (mid := 12038) (args := [.int x1, .int x2, .int x3, .int x4]) (pc := 24) (L := [some (.ref 60), some (.int x1), some (.int x2), some (.int x3), some (.int x4), none]) (st := []) (σ := (wi σ 60 0 0)) rfl ((fX7_isDate_ok _ _ _ _ _ q4 h5).deep (Nat.le_of_ble_eq_true rfl)) ?_
    by_cases h6 : q4 ≠ 0
    · rw [if_pos h6] at hf
      refine go_it (t := 29) (f := 27) (L1 := [some (.ref 60), some (.int x1), some (.int x2), some (.int x3), some (.int x4), none]) (st1 := []) (σ1 := (wi σ 60 0 0)) rfl h6 ?_
      refine go_n 4 (f := (34, [some (.ref 60), some (.int x1), some (.int x2), some (.int x3), some (.int x4), none], [.int x4, .int x3, .int x2, .int x1], (wi σ 60 0 0))) rfl ?_
      obtain ⟨q7, h8, hf⟩ := bnd hf
      refine go_c (mid := 12041) (args := [.int x1, .int x2, .int x3, .int x4]) (pc := 37) (L := [some (.ref 60), some (.int x1), some (.int x2), some (.int x3), some (.int x4), none]) (st := []) (σ := (wi σ 60 0 0)) rfl ((fX7_dayOf_ok _ _ _ _ _ q7 h8).deep (Nat.le_of_ble_eq_true rfl)) ?_
      refine go_n 2 (f := (41, [some (.ref 60), some (.int x1), some (.int x2), some (.int x3), some (.int x4), some (.int q7)], [.int q7], (wi σ 60 0 0))) rfl ?_
      obtain ⟨q9, h10, hf⟩ := bnd hf
      refine go_c (mid := 12042) (args := [.int q7]) (pc := 44) (L := [some (.ref 60), some (.int x1), some (.int x2), some (.int x3), some (.int x4), some (.int q7)]) (st := []) (σ := (wi σ 60 0 0)) rfl ((fX7_isDay_ok _ _ q9 h10).deep (Nat.le_of_ble_eq_true rfl)) ?_
      refine go_m (f := (53, [none, none, none, none, none, none], [.int (if q9 = 0 then (-1) else q7)], (wi σ 60 0 0))) ?_ (fun hJ13 => ?_)
      · generalize hz12 : (if q9 = 0 then (-1) else q7) = z12 at hf ⊢
        try dsimp only at hf
        cases hf
        exact go_r rfl
      · by_cases h11 : q9 = 0
        · refine go_it (t := 52) (f := 47) (L1 := [some (.ref 60), some (.int x1), some (.int x2), some (.int x3), some (.int x4), some (.int q7)]) (st1 := []) (σ1 := (wi σ 60 0 0)) rfl h11 ?_
          refine go_n 1 (f := (53, [some (.ref 60), some (.int x1), some (.int x2), some (.int x3), some (.int x4), some (.int q7)], [.int (-1)], (wi σ 60 0 0))) rfl ?_
          refine go_e (L1 := [none, none, none, none, none, none]) rfl rfl ?_
          simp only [if_pos h11] at hJ13
          first | exact hJ13 | (simp only [if_pos h11]; exact hJ13)
        · refine go_if (t := 52) (f := 47) (L1 := [some (.ref 60), some (.int x1), some (.int x2), some (.int x3), some (.int x4), some (.int q7)]) (st1 := []) (σ1 := (wi σ 60 0 0)) rfl h11 ?_
          refine go_n 2 (f := (53, [some (.ref 60), some (.int x1), some (.int x2), some (.int x3), some (.int x4), some (.int q7)], [.int q7], (wi σ 60 0 0))) rfl ?_
          refine go_e (L1 := [none, none, none, none, none, none]) rfl rfl ?_
          simp only [if_neg h11] at hJ13
          first | exact hJ13 | (simp only [if_neg h11]; exact hJ13)
    · rw [if_neg h6] at hf
      refine go_if (t := 29) (f := 27) (L1 := [some (.ref 60), some (.int x1), some (.int x2), some (.int x3), some (.int x4), none]) (st1 := []) (σ1 := (wi σ 60 0 0)) rfl h6 ?_
      refine go_e (L1 := [none, none, none, none, none, none]) rfl rfl ?_
      refine go_n 1 (f := (28, [none, none, none, none, none, none], [.int (-1)], (wi σ 60 0 0))) rfl ?_
      cases hf
      exact go_r rfl
/-! OldWeatherModel.word(IIIIII)I -/
def fX7_word (x1 : Int32) (x2 : Int32) (x3 : Int32) (x4 : Int32) (x5 : Int32) (x6 : Int32) (σ : Sg) : Option (Int32 × Sg) :=
  (fX7_in x5.toInt64 0 19).bind fun q1 => (fX7_tell 0 x1 x2 x3 x4 x5 q1 x6 0 (wi σ 60 0 0)).bind fun q3 => some (q3.1, q3.2)
set_option maxHeartbeats 1500000 in
theorem fX7_word_ok (x1 : Int32) (x2 : Int32) (x3 : Int32) (x4 : Int32) (x5 : Int32) (x6 : Int32) (σ : Sg) (r : (Int32 × Sg)) (hf : fX7_word x1 x2 x3 x4 x5 x6 σ = some r) : Cl true 4 12055 [.ref 60, .int x1, .int x2, .int x3, .int x4, .int x5, .int x6] σ (.inl (some (.int (r).1)), (r).2) := by
  refine ⟨iX7_word, rfl, Nat.le_of_ble_eq_true rfl, Nat.le_of_ble_eq_true rfl, ?_⟩
  show Go true 4 iX7_word (0, [some (.ref 60), some (.int x1), some (.int x2), some (.int x3), some (.int x4), some (.int x5), some (.int x6)], [], σ) (.inl (some (.int (r).1)), (r).2)
  unfold fX7_word at hf
  refine go_n 10 (f := (14, [some (.ref 60), some (.int x1), some (.int x2), some (.int x3), some (.int x4), some (.int x5), some (.int x6)], [.int x5, .int x4, .int x3, .int x2, .int x1, .int 0, .ref 60], (wi σ 60 0 0))) rfl ?_
  refine go_n 4 (f := (21, [some (.ref 60), some (.int x1), some (.int x2), some (.int x3), some (.int x4), some (.int x5), some (.int x6)], [.long 19, .long 0, .long x5.toInt64, .int x5, .int x4, .int x3, .int x2, .int x1, .int 0, .ref 60], (wi σ 60 0 0))) rfl ?_
  obtain ⟨q1, h2, hf⟩ := bnd hf
  refine go_c (mid := 12034) (args := [.long x5.toInt64, .long 0, .long 19]) (pc := 24) (L := [some (.ref 60), some (.int x1), some (.int x2), some (.int x3), some (.int x4), some (.int x5), some (.int x6)]) (st := [.int x5, .int x4, .int x3, .int x2, .int x1, .int 0, .ref 60]) (σ := (wi σ 60 0 0)) rfl ((fX7_in_ok _ _ _ _ q1 h2).deep (Nat.le_of_ble_eq_true rfl)) ?_
  refine go_n 2 (f := (27, [some (.ref 60), some (.int x1), some (.int x2), some (.int x3), some (.int x4), some (.int x5), some (.int x6)], [.int 0, .int x6, .int q1, .int x5, .int x4, .int x3, .int x2, .int x1, .int 0, .ref 60], (wi σ 60 0 0))) rfl ?_
  obtain ⟨q3, h4, hf⟩ := bnd hf
  refine go_c (mid := 12056) (args := [.ref 60, .int 0, .int x1, .int x2, .int x3, .int x4, .int x5, .int q1, .int x6, .int 0]) (pc := 30) (L := [some (.ref 60), some (.int x1), some (.int x2), some (.int x3), some (.int x4), some (.int x5), some (.int x6)]) (st := []) (σ := (wi σ 60 0 0)) rfl ((fX7_tell_ok _ _ _ _ _ _ _ _ _ _ q3 h4).deep (Nat.le_of_ble_eq_true rfl)) ?_
  cases hf
  exact go_r rfl
/-! OldWeatherModel.of(II)I -/
def fX7_of (x1 : Int32) (x2 : Int32) (σ : Sg) : Option (Int32 × Sg) :=
  (fX7_isReading x1 (wi σ 60 0 0)).bind fun q1 => if q1 = 0 then some ((-100000), (wi σ 60 0 0)) else (fX7_in x2.toInt64 0 5).bind fun q4 => if q4 ≠ 0 then (fX7_findDays x1 (wi σ 60 0 0)).bind fun q7 => if x2 = 0 then (fX7_get x1 x2 q7).bind fun q10 => some (q10, q7) else if x2 = 1 then (fX7_get x1 x2 q7).bind fun q13 => some (q13, q7) else if x2 = 2 then (fX7_get x1 5 q7).bind fun q16 => some (q16, q7) else if x2 = 3 then some ((gi q7 60 8), q7) else if x2 = 4 then ((fun (z21 : Int32) => some (z21, q7)) (if (gi q7 60 8) ≤ 0 then (-100000) else (gi q7 60 9))) else ((fun (z24 : Int32) => some (z24, q7)) (if (gi q7 60 8) ≤ 1 then (-100000) else (gi q7 60 10))) else some ((-100000), (wi σ 60 0 0))
set_option maxHeartbeats 1500000 in
theorem fX7_of_ok (x1 : Int32) (x2 : Int32) (σ : Sg) (r : (Int32 × Sg)) (hf : fX7_of x1 x2 σ = some r) : Cl true 4 12064 [.ref 60, .int x1, .int x2] σ (.inl (some (.int (r).1)), (r).2) := by
  refine ⟨iX7_of, rfl, Nat.le_of_ble_eq_true rfl, Nat.le_of_ble_eq_true rfl, ?_⟩
  show Go true 4 iX7_of (0, [some (.ref 60), some (.int x1), some (.int x2)], [], σ) (.inl (some (.int (r).1)), (r).2)
  unfold fX7_of at hf
  refine go_n 5 (f := (7, [some (.ref 60), some (.int x1), some (.int x2)], [.int x1, .ref 60], (wi σ 60 0 0))) rfl ?_
  obtain ⟨q1, h2, hf⟩ := bnd hf
  refine go_c (mid := 12058) (args := [.ref 60, .int x1]) (pc := 10) (L := [some (.ref 60), some (.int x1), some (.int x2)]) (st := []) (σ := (wi σ 60 0 0)) rfl ((fX7_isReading_ok _ _ q1 h2).deep (Nat.le_of_ble_eq_true rfl)) ?_
  by_cases h3 : q1 = 0
  · rw [if_pos h3] at hf
    refine go_it (t := 25) (f := 13) (L1 := [some (.ref 60), some (.int x1), some (.int x2)]) (st1 := []) (σ1 := (wi σ 60 0 0)) rfl h3 ?_
    refine go_e (L1 := [none, none, none]) rfl rfl ?_
    refine go_n 1 (f := (27, [none, none, none], [.int (-100000)], (wi σ 60 0 0))) rfl ?_
    cases hf
    exact go_r rfl
  · rw [if_neg h3] at hf
    refine go_if (t := 25) (f := 13) (L1 := [some (.ref 60), some (.int x1), some (.int x2)]) (st1 := []) (σ1 := (wi σ 60 0 0)) rfl h3 ?_
    refine go_n 4 (f := (19, [some (.ref 60), some (.int x1), some (.int x2)], [.long 5, .long 0, .long x2.toInt64], (wi σ 60 0 0))) rfl ?_
    obtain ⟨q4, h5, hf⟩ := bnd hf
    refine go_c (mid := 12034) (args := [.long x2.toInt64, .long 0, .long 5]) (pc := 22) (L := [some (.ref 60), some (.int x1), some (.int x2)]) (st := []) (σ := (wi σ 60 0 0)) rfl ((fX7_in_ok _ _ _ _ q4 h5).deep (Nat.le_of_ble_eq_true rfl)) ?_
    by_cases h6 : q4 ≠ 0
    · rw [if_pos h6] at hf
      refine go_it (t := 28) (f := 25) (L1 := [some (.ref 60), some (.int x1), some (.int x2)]) (st1 := []) (σ1 := (wi σ 60 0 0)) rfl h6 ?_
      refine go_n 2 (f := (30, [some (.ref 60), some (.int x1), some (.int x2)], [.int x1, .ref 60], (wi σ 60 0 0))) rfl ?_
      obtain ⟨q7, h8, hf⟩ := bnd hf
      refine go_c (mid := 12065) (args := [.ref 60, .int x1]) (pc := 33) (L := [some (.ref 60), some (.int x1), some (.int x2)]) (st := []) (σ := (wi σ 60 0 0)) rfl ((fX7_findDays_ok _ _ q7 h8).deep (Nat.le_of_ble_eq_true rfl)) ?_
      refine go_n 1 (f := (34, [some (.ref 60), some (.int x1), some (.int x2)], [.int x2], q7)) rfl ?_
      by_cases h9 : x2 = 0
      · rw [if_pos h9] at hf
        refine go_tsw (t := 68) rfl rfl (by rw [h9]; rfl) ?_
        refine go_n 3 (f := (71, [some (.ref 60), some (.int x1), some (.int x2)], [.int x2, .int x1, .ref 60], q7)) rfl ?_
        obtain ⟨q10, h11, hf⟩ := bnd hf
        refine go_c (mid := 12067) (args := [.ref 60, .int x1, .int x2]) (pc := 74) (L := [some (.ref 60), some (.int x1), some (.int x2)]) (st := []) (σ := q7) rfl ((fX7_get_ok _ _ _ q10 h11).deep (Nat.le_of_ble_eq_true rfl)) ?_
        cases hf
        exact go_r rfl
      · rw [if_neg h9] at hf
        by_cases h12 : x2 = 1
        · rw [if_pos h12] at hf
          refine go_tsw (t := 68) rfl rfl (by rw [h12]; rfl) ?_
          refine go_n 3 (f := (71, [some (.ref 60), some (.int x1), some (.int x2)], [.int x2, .int x1, .ref 60], q7)) rfl ?_
          obtain ⟨q13, h14, hf⟩ := bnd hf
          refine go_c (mid := 12067) (args := [.ref 60, .int x1, .int x2]) (pc := 74) (L := [some (.ref 60), some (.int x1), some (.int x2)]) (st := []) (σ := q7) rfl ((fX7_get_ok _ _ _ q13 h14).deep (Nat.le_of_ble_eq_true rfl)) ?_
          cases hf
          exact go_r rfl
        · rw [if_neg h12] at hf
          by_cases h15 : x2 = 2
          · rw [if_pos h15] at hf
            refine go_tsw (t := 75) rfl rfl (by rw [h15]; rfl) ?_
            refine go_n 3 (f := (78, [some (.ref 60), some (.int x1), some (.int x2)], [.int 5, .int x1, .ref 60], q7)) rfl ?_
            obtain ⟨q16, h17, hf⟩ := bnd hf
            refine go_c (mid := 12067) (args := [.ref 60, .int x1, .int 5]) (pc := 81) (L := [some (.ref 60), some (.int x1), some (.int x2)]) (st := []) (σ := q7) rfl ((fX7_get_ok _ _ _ q16 h17).deep (Nat.le_of_ble_eq_true rfl)) ?_
            cases hf
            exact go_r rfl
          · rw [if_neg h15] at hf
            by_cases h18 : x2 = 3
            · rw [if_pos h18] at hf
              refine go_tsw (t := 82) rfl rfl (by rw [h18]; rfl) ?_
              refine go_n 2 (f := (86, [some (.ref 60), some (.int x1), some (.int x2)], [.int (gi q7 60 8)], q7)) rfl ?_
              cases hf
              exact go_r rfl
            · rw [if_neg h18] at hf
              by_cases h19 : x2 = 4
              · rw [if_pos h19] at hf
                refine go_tsw (t := 87) rfl rfl (by rw [h19]; rfl) ?_
                refine go_n 2 (f := (91, [some (.ref 60), some (.int x1), some (.int x2)], [.int (gi q7 60 8)], q7)) rfl ?_
                refine go_m (f := (103, [none, none, none], [.int (if (gi q7 60 8) ≤ 0 then (-100000) else (gi q7 60 9))], q7)) ?_ (fun hJ22 => ?_)
                · generalize hz21 : (if (gi q7 60 8) ≤ 0 then (-100000) else (gi q7 60 9)) = z21 at hf ⊢
                  try dsimp only at hf
                  cases hf
                  exact go_r rfl
                · by_cases h20 : (gi q7 60 8) ≤ 0
                  · refine go_it (t := 101) (f := 94) (L1 := [some (.ref 60), some (.int x1), some (.int x2)]) (st1 := []) (σ1 := q7) rfl h20 ?_
                    refine go_n 1 (f := (103, [some (.ref 60), some (.int x1), some (.int x2)], [.int (-100000)], q7)) rfl ?_
                    refine go_e (L1 := [none, none, none]) rfl rfl ?_
                    simp only [if_pos h20] at hJ22
                    first | exact hJ22 | (simp only [if_pos h20]; exact hJ22)
                  · refine go_if (t := 101) (f := 94) (L1 := [some (.ref 60), some (.int x1), some (.int x2)]) (st1 := []) (σ1 := q7) rfl h20 ?_
                    refine go_n 3 (f := (103, [some (.ref 60), some (.int x1), some (.int x2)], [.int (gi q7 60 9)], q7)) rfl ?_
                    refine go_e (L1 := [none, none, none]) rfl rfl ?_
                    simp only [if_neg h20] at hJ22
                    first | exact hJ22 | (simp only [if_neg h20]; exact hJ22)
              · rw [if_neg h19] at hf
                have htt : am_ts 34 70 0 4 #[34, 34, 41, 48, 53] x2 = some 104 := by
                  have hts : x2.toInt < 0 ∨ 4 < x2.toInt := by
                    have h9t : x2.toInt ≠ 0 := tsn h9
                    have h12t : x2.toInt ≠ 1 := tsn h12
                    have h15t : x2.toInt ≠ 2 := tsn h15
                    have h18t : x2.toInt ≠ 3 := tsn h18
                    have h19t : x2.toInt ≠ 4 := tsn h19
                    omega
                  unfold am_ts; rw [if_pos hts]; rfl
                refine go_tsw (t := 104) rfl rfl htt ?_
                refine go_n 3 (f := (109, [some (.ref 60), some (.int x1), some (.int x2)], [.int 1, .int (gi q7 60 8)], q7)) rfl ?_
                refine go_m (f := (121, [none, none, none], [.int (if (gi q7 60 8) ≤ 1 then (-100000) else (gi q7 60 10))], q7)) ?_ (fun hJ25 => ?_)
                · generalize hz24 : (if (gi q7 60 8) ≤ 1 then (-100000) else (gi q7 60 10)) = z24 at hf ⊢
                  try dsimp only at hf
                  cases hf
                  exact go_r rfl
                · by_cases h23 : (gi q7 60 8) ≤ 1
                  · refine go_it (t := 119) (f := 112) (L1 := [some (.ref 60), some (.int x1), some (.int x2)]) (st1 := []) (σ1 := q7) rfl h23 ?_
                    refine go_n 1 (f := (121, [some (.ref 60), some (.int x1), some (.int x2)], [.int (-100000)], q7)) rfl ?_
                    refine go_e (L1 := [none, none, none]) rfl rfl ?_
                    simp only [if_pos h23] at hJ25
                    first | exact hJ25 | (simp only [if_pos h23]; exact hJ25)
                  · refine go_if (t := 119) (f := 112) (L1 := [some (.ref 60), some (.int x1), some (.int x2)]) (st1 := []) (σ1 := q7) rfl h23 ?_
                    refine go_n 3 (f := (121, [some (.ref 60), some (.int x1), some (.int x2)], [.int (gi q7 60 10)], q7)) rfl ?_
                    refine go_e (L1 := [none, none, none]) rfl rfl ?_
                    simp only [if_neg h23] at hJ25
                    first | exact hJ25 | (simp only [if_neg h23]; exact hJ25)
    · rw [if_neg h6] at hf
      refine go_if (t := 28) (f := 25) (L1 := [some (.ref 60), some (.int x1), some (.int x2)]) (st1 := []) (σ1 := (wi σ 60 0 0)) rfl h6 ?_
      refine go_e (L1 := [none, none, none]) rfl rfl ?_
      refine go_n 1 (f := (27, [none, none, none], [.int (-100000)], (wi σ 60 0 0))) rfl ?_
      cases hf
      exact go_r rfl
/-! OldWeatherModel.readPlain()I -/
def fX7_readPlain  (σ : Sg) : Option (Int32 × Sg) :=
  (fX7_isWord 14836 σ).bind fun q1 => if q1 = 0 then (fX7_isSign 40 σ).bind fun q4 => if q4 = 0 then (fX7_readPart  σ).bind fun q7 => some (q7.1, q7.2) else (fX7_open 30 σ).bind fun q9 => some (0, q9) else (fX7_push 17 0 σ).bind fun q11 => (fX7_next  q11).bind fun q13 => some (0, q13)
set_option maxHeartbeats 1500000 in
theorem fX7_readPlain_ok  (σ : Sg) (r : (Int32 × Sg)) (hf : fX7_readPlain  σ = some r) : Cl true 5 12092 [.ref 60] σ (.inl (some (.int (r).1)), (r).2) := by
  refine ⟨iX7_readPlain, rfl, Nat.le_of_ble_eq_true rfl, Nat.le_of_ble_eq_true rfl, ?_⟩
  show Go true 5 iX7_readPlain (0, [some (.ref 60)], [], σ) (.inl (some (.int (r).1)), (r).2)
  unfold fX7_readPlain at hf
  refine go_n 2 (f := (4, [some (.ref 60)], [.long 14836, .ref 60], σ)) rfl ?_
  obtain ⟨q1, h2, hf⟩ := bnd hf
  refine go_c (mid := 12085) (args := [.ref 60, .long 14836]) (pc := 7) (L := [some (.ref 60)]) (st := []) (σ := σ) rfl ((fX7_isWord_ok _ _ q1 h2).deep (Nat.le_of_ble_eq_true rfl)) ?_
  by_cases h3 : q1 = 0
  · rw [if_pos h3] at hf
    refine go_it (t := 23) (f := 10) (L1 := [some (.ref 60)]) (st1 := []) (σ1 := σ) rfl h3 ?_
    refine go_n 2 (f := (26, [some (.ref 60)], [.int 40, .ref 60], σ)) rfl ?_
    obtain ⟨q4, h5, hf⟩ := bnd hf
    refine go_c (mid := 12094) (args := [.ref 60, .int 40]) (pc := 29) (L := [some (.ref 60)]) (st := []) (σ := σ) rfl ((fX7_isSign_ok _ _ q4 h5).deep (Nat.le_of_ble_eq_true rfl)) ?_
    by_cases h6 : q4 = 0
    · rw [if_pos h6] at hf
      refine go_it (t := 40) (f := 32) (L1 := [some (.ref 60)]) (st1 := []) (σ1 := σ) rfl h6 ?_
      refine go_n 1 (f := (41, [some (.ref 60)], [.ref 60], σ)) rfl ?_
      obtain ⟨q7, h8, hf⟩ := bnd hf
      refine go_c (mid := 12096) (args := [.ref 60]) (pc := 44) (L := [some (.ref 60)]) (st := []) (σ := σ) rfl ((fX7_readPart_ok _ q7 h8).deep (Nat.le_of_ble_eq_true rfl)) ?_
      cases hf
      exact go_r rfl
    · rw [if_neg h6] at hf
      refine go_if (t := 40) (f := 32) (L1 := [some (.ref 60)]) (st1 := []) (σ1 := σ) rfl h6 ?_
      refine go_n 2 (f := (35, [some (.ref 60)], [.int 30, .ref 60], σ)) rfl ?_
      obtain ⟨q9, h10, hf⟩ := bnd hf
      refine go_c (mid := 12095) (args := [.ref 60, .int 30]) (pc := 38) (L := [some (.ref 60)]) (st := []) (σ := σ) rfl ((fX7_open_ok _ _ q9 h10).deep (Nat.le_of_ble_eq_true rfl)) ?_
      refine go_n 1 (f := (39, [some (.ref 60)], [.int 0], q9)) rfl ?_
      cases hf
      exact go_r rfl
  · rw [if_neg h3] at hf
    refine go_if (t := 23) (f := 10) (L1 := [some (.ref 60)]) (st1 := []) (σ1 := σ) rfl h3 ?_
    refine go_n 3 (f := (14, [some (.ref 60)], [.int 0, .int 17, .ref 60], σ)) rfl ?_
    obtain ⟨q11, h12, hf⟩ := bnd hf
    refine go_c (mid := 12093) (args := [.ref 60, .int 17, .int 0]) (pc := 17) (L := [some (.ref 60)]) (st := []) (σ := σ) rfl ((fX7_push_ok _ _ _ q11 h12).deep (Nat.le_of_ble_eq_true rfl)) ?_
    refine go_n 1 (f := (18, [some (.ref 60)], [.ref 60], q11)) rfl ?_
    obtain ⟨q13, h14, hf⟩ := bnd hf
    refine go_c (mid := 12080) (args := [.ref 60]) (pc := 21) (L := [some (.ref 60)]) (st := []) (σ := q11) rfl ((fX7_next_ok _ q13 h14).deep (Nat.le_of_ble_eq_true rfl)) ?_
    refine go_n 1 (f := (22, [some (.ref 60)], [.int 0], q13)) rfl ?_
    cases hf
    exact go_r rfl
/-! OldWeatherModel.knowBy(I)V -/
def fX7_knowBy_L187   (rec187 : (Int32 × Sg) → Option Sg) (s : Int32 × Sg) : Option Sg :=
  match s with
  | (x2, σ) => if 160 ≤ x2 then some σ else if inb x2 160 then rec187 ((x2 + 1), (wi σ 76 x2.toNatClampNeg (-1))) else none
set_option maxHeartbeats 1500000 in
theorem fX7_knowBy_L187_ok    : ∀ (n : Nat) (x2 : Int32) (σ : Sg) (r : Sg), lp (fX7_knowBy_L187  ) n (x2, σ) = some r → Go true 5 iX7_knowBy (187, [some (.ref 60), none, some (.int x2), none, none], [], σ) (.inl none, r) := by
  intro n
  induction n with
  | zero => intro x2 σ r hf; cases hf
  | succ n ih =>
    intro x2 σ r hf
    have hf : fX7_knowBy_L187   (lp (fX7_knowBy_L187  ) n) (x2, σ) = some r := hf
    have hrec187 := ih
    generalize lp (fX7_knowBy_L187  ) n = rec187 at hf hrec187
    unfold fX7_knowBy_L187 at hf
    dsimp only at hf
    refine go_n 2 (f := (191, [some (.ref 60), none, some (.int x2), none, none], [.int 160, .int x2], σ)) rfl ?_
    by_cases h7 : 160 ≤ x2
    · rw [if_pos h7] at hf
      refine go_it (t := 207) (f := 194) (L1 := [some (.ref 60), none, some (.int x2), none, none]) (st1 := []) (σ1 := σ) rfl h7 ?_
      cases hf
      exact go_r rfl
    · rw [if_neg h7] at hf
      refine go_if (t := 207) (f := 194) (L1 := [some (.ref 60), none, some (.int x2), none, none]) (st1 := []) (σ1 := σ) rfl h7 ?_
      refine go_n 4 (f := (200, [some (.ref 60), none, some (.int x2), none, none], [.int (-1), .int x2, .ref 76], σ)) rfl ?_
      obtain ⟨h8, hf⟩ := grd hf
      refine go_iast rfl rfl rfl h8 ?_
      refine go_n 2 (f := (187, [some (.ref 60), none, some (.int (x2 + 1)), none, none], [], (wi σ 76 x2.toNatClampNeg (-1)))) rfl ?_
      exact hrec187 _ _ _ hf
def fX7_knowBy_J175 (x2 : Int32) (rec40 : (Int32 × Sg) → Option Sg) (σ : Sg) : Option Sg :=
  rec40 ((x2 + (-1)), σ)
set_option maxHeartbeats 1500000 in
theorem fX7_knowBy_J175_ok (x2 : Int32) (rec40 : (Int32 × Sg) → Option Sg) (σ : Sg) (hrec40 : ∀ (y2 : Int32) (τ : Sg) (r : Sg), rec40 (y2, τ) = some r → Go true 5 iX7_knowBy (40, [some (.ref 60), none, some (.int y2), none, none], [], τ) (.inl none, r)) (r : Sg) (hf : fX7_knowBy_J175 x2 rec40 σ = some r) : Go true 5 iX7_knowBy (175, [some (.ref 60), none, some (.int x2), none, none], [], σ) (.inl none, r) := by
  unfold fX7_knowBy_J175 at hf
  refine go_n 2 (f := (40, [some (.ref 60), none, some (.int (x2 + (-1))), none, none], [], σ)) rfl ?_
  exact hrec40 _ _ _ hf
def fX7_knowBy_J169 (x2 : Int32) (x3 : Int32) (rec40 : (Int32 × Sg) → Option Sg) (rec73 : (Int32 × Sg) → Option Sg) (σ : Sg) : Option Sg :=
  rec73 ((x3 + 1), σ)
set_option maxHeartbeats 1500000 in
theorem fX7_knowBy_J169_ok (x2 : Int32) (x3 : Int32) (rec40 : (Int32 × Sg) → Option Sg) (rec73 : (Int32 × Sg) → Option Sg) (σ : Sg) (hrec40 : ∀ (y2 : Int32) (τ : Sg) (r : Sg), rec40 (y2, τ) = some r → Go true 5 iX7_knowBy (40, [some (.ref 60), none, some (.int y2), none, none], [], τ) (.inl none, r)) (hrec73 : ∀ (y3 : Int32) (τ : Sg) (r : Sg), rec73 (y3, τ) = some r → Go true 5 iX7_knowBy (73, [some (.ref 60), none, some (.int x2), some (.int y3), none], [], τ) (.inl none, r)) (r : Sg) (hf : fX7_knowBy_J169 x2 x3 rec40 rec73 σ = some r) : Go true 5 iX7_knowBy (169, [some (.ref 60), none, some (.int x2), some (.int x3), none], [], σ) (.inl none, r) := by
  unfold fX7_knowBy_J169 at hf
  refine go_n 2 (f := (73, [some (.ref 60), none, some (.int x2), some (.int (x3 + 1)), none], [], σ)) rfl ?_
  exact hrec73 _ _ _ hf
def fX7_knowBy_L73 (x2 : Int32) (rec40 : (Int32 × Sg) → Option Sg) (rec73 : (Int32 × Sg) → Option Sg) (s : Int32 × Sg) : Option Sg :=
  match s with
  | (x3, σ) => (fX7_textAt x2).bind fun q15 => if inb (q15 + 1) 39698 then if (gi σ 61 (q15 + 1).toNatClampNeg) ≤ x3 then fX7_knowBy_J175 x2 rec40 σ else if inb x2 20 then if (gi σ 73 x2.toNatClampNeg) = 0 then fX7_knowBy_J175 x2 rec40 σ else (fX7_clauseAt x2 x3).bind fun q21 => if inb q21 39698 then if (gi σ 61 q21.toNatClampNeg) ≠ 0 then fX7_knowBy_J169 x2 x3 rec40 rec73 σ else if inb ((12 * x2) + x3) 240 then if (gi σ 72 ((12 * x2) + x3).toNatClampNeg) ≠ 0 then fX7_knowBy_J169 x2 x3 rec40 rec73 σ else if inb (q21 + 1) 39698 then if x2 ≤ (gi σ 61 (q21 + 1).toNatClampNeg) then fX7_knowBy_J169 x2 x3 rec40 rec73 σ else if inb (q21 + 1) 39698 then if inb (q21 + 2) 39698 then if inb ((12 * (gi σ 61 (q21 + 1).toNatClampNeg)) + (gi σ 61 (q21 + 2).toNatClampNeg)) 240 then fX7_knowBy_J169 x2 x3 rec40 rec73 (wi σ 72 ((12 * (gi σ 61 (q21 + 1).toNatClampNeg)) + (gi σ 61 (q21 + 2).toNatClampNeg)).toNatClampNeg 1) else none else none else none else none else none else none else none else none
set_option maxHeartbeats 1500000 in
theorem fX7_knowBy_L73_ok (x2 : Int32) (rec40 : (Int32 × Sg) → Option Sg) (hrec40 : ∀ (y2 : Int32) (τ : Sg) (r : Sg), rec40 (y2, τ) = some r → Go true 5 iX7_knowBy (40, [some (.ref 60), none, some (.int y2), none, none], [], τ) (.inl none, r)) : ∀ (n : Nat) (x3 : Int32) (σ : Sg) (r : Sg), lp (fX7_knowBy_L73 x2 rec40) n (x3, σ) = some r → Go true 5 iX7_knowBy (73, [some (.ref 60), none, some (.int x2), some (.int x3), none], [], σ) (.inl none, r) := by
  intro n
  induction n with
  | zero => intro x3 σ r hf; cases hf
  | succ n ih =>
    intro x3 σ r hf
    have hf : fX7_knowBy_L73 x2 rec40 (lp (fX7_knowBy_L73 x2 rec40) n) (x3, σ) = some r := hf
    have hrec73 := ih
    generalize lp (fX7_knowBy_L73 x2 rec40) n = rec73 at hf hrec73
    unfold fX7_knowBy_L73 at hf
    dsimp only at hf
    refine go_n 4 (f := (79, [some (.ref 60), none, some (.int x2), some (.int x3), none], [.int x2, .ref 61, .int x3], σ)) rfl ?_
    obtain ⟨q15, h16, hf⟩ := bnd hf
    refine go_c (mid := 12105) (args := [.int x2]) (pc := 82) (L := [some (.ref 60), none, some (.int x2), some (.int x3), none]) (st := [.ref 61, .int x3]) (σ := σ) rfl ((fX7_textAt_ok _ _ q15 h16).deep (Nat.le_of_ble_eq_true rfl)) ?_
    refine go_n 2 (f := (84, [some (.ref 60), none, some (.int x2), some (.int x3), none], [.int (q15 + 1), .ref 61, .int x3], σ)) rfl ?_
    obtain ⟨h17, hf⟩ := grd hf
    refine go_iald rfl rfl rfl h17 ?_
    by_cases h18 : (gi σ 61 (q15 + 1).toNatClampNeg) ≤ x3
    · rw [if_pos h18] at hf
      refine go_it (t := 175) (f := 88) (L1 := [some (.ref 60), none, some (.int x2), some (.int x3), none]) (st1 := []) (σ1 := σ) rfl h18 ?_
      refine go_e (L1 := [some (.ref 60), none, some (.int x2), none, none]) rfl rfl ?_
      exact fX7_knowBy_J175_ok _ _ _ hrec40 _ hf
    · rw [if_neg h18] at hf
      refine go_if (t := 175) (f := 88) (L1 := [some (.ref 60), none, some (.int x2), some (.int x3), none]) (st1 := []) (σ1 := σ) rfl h18 ?_
      refine go_n 3 (f := (93, [some (.ref 60), none, some (.int x2), some (.int x3), none], [.int x2, .ref 73], σ)) rfl ?_
      obtain ⟨h19, hf⟩ := grd hf
      refine go_bald rfl rfl (Or.inr rfl) h19 ?_
      by_cases h20 : (gi σ 73 x2.toNatClampNeg) = 0
      · rw [if_pos h20] at hf
        refine go_it (t := 175) (f := 97) (L1 := [some (.ref 60), none, some (.int x2), some (.int x3), none]) (st1 := []) (σ1 := σ) rfl h20 ?_
        refine go_e (L1 := [some (.ref 60), none, some (.int x2), none, none]) rfl rfl ?_
        exact fX7_knowBy_J175_ok _ _ _ hrec40 _ hf
      · rw [if_neg h20] at hf
        refine go_if (t := 175) (f := 97) (L1 := [some (.ref 60), none, some (.int x2), some (.int x3), none]) (st1 := []) (σ1 := σ) rfl h20 ?_
        refine go_n 2 (f := (99, [some (.ref 60), none, some (.int x2), some (.int x3), none], [.int x3, .int x2], σ)) rfl ?_
        obtain ⟨q21, h22, hf⟩ := bnd hf
        refine go_c (mid := 12109) (args := [.int x2, .int x3]) (pc := 102) (L := [some (.ref 60), none, some (.int x2), some (.int x3), none]) (st := []) (σ := σ) rfl ((fX7_clauseAt_ok _ _ _ q21 h22).deep (Nat.le_of_ble_eq_true rfl)) ?_
        refine go_n 4 (f := (110, [some (.ref 60), none, some (.int x2), some (.int x3), some (.int q21)], [.int q21, .ref 61], σ)) rfl ?_
        obtain ⟨h23, hf⟩ := grd hf
        refine go_iald rfl rfl rfl h23 ?_
        by_cases h24 : (gi σ 61 q21.toNatClampNeg) ≠ 0
        · rw [if_pos h24] at hf
          refine go_it (t := 169) (f := 114) (L1 := [some (.ref 60), none, some (.int x2), some (.int x3), some (.int q21)]) (st1 := []) (σ1 := σ) rfl h24 ?_
          refine go_e (L1 := [some (.ref 60), none, some (.int x2), some (.int x3), none]) rfl rfl ?_
          exact fX7_knowBy_J169_ok _ _ _ _ _ hrec40 hrec73 _ hf
        · rw [if_neg h24] at hf
          refine go_if (t := 169) (f := 114) (L1 := [some (.ref 60), none, some (.int x2), some (.int x3), some (.int q21)]) (st1 := []) (σ1 := σ) rfl h24 ?_
          refine go_n 7 (f := (124, [some (.ref 60), none, some (.int x2), some (.int x3), some (.int q21)], [.int ((12 * x2) + x3), .ref 72], σ)) rfl ?_
          obtain ⟨h25, hf⟩ := grd hf
          refine go_bald rfl rfl (Or.inr rfl) h25 ?_
          by_cases h26 : (gi σ 72 ((12 * x2) + x3).toNatClampNeg) ≠ 0
          · rw [if_pos h26] at hf
            refine go_it (t := 169) (f := 128) (L1 := [some (.ref 60), none, some (.int x2), some (.int x3), some (.int q21)]) (st1 := []) (σ1 := σ) rfl h26 ?_
            refine go_e (L1 := [some (.ref 60), none, some (.int x2), some (.int x3), none]) rfl rfl ?_
            exact fX7_knowBy_J169_ok _ _ _ _ _ hrec40 hrec73 _ hf
          · rw [if_neg h26] at hf
            refine go_if (t := 169) (f := 128) (L1 := [some (.ref 60), none, some (.int x2), some (.int x3), some (.int q21)]) (st1 := []) (σ1 := σ) rfl h26 ?_
            refine go_n 5 (f := (136, [some (.ref 60), none, some (.int x2), some (.int x3), some (.int q21)], [.int (q21 + 1), .ref 61], σ)) rfl ?_
            obtain ⟨h27, hf⟩ := grd hf
            refine go_iald rfl rfl rfl h27 ?_
            refine go_n 1 (f := (138, [some (.ref 60), none, some (.int x2), some (.int x3), some (.int q21)], [.int x2, .int (gi σ 61 (q21 + 1).toNatClampNeg)], σ)) rfl ?_
            by_cases h28 : x2 ≤ (gi σ 61 (q21 + 1).toNatClampNeg)
            · rw [if_pos h28] at hf
              refine go_it (t := 169) (f := 141) (L1 := [some (.ref 60), none, some (.int x2), some (.int x3), some (.int q21)]) (st1 := []) (σ1 := σ) rfl h28 ?_
              refine go_e (L1 := [some (.ref 60), none, some (.int x2), some (.int x3), none]) rfl rfl ?_
              exact fX7_knowBy_J169_ok _ _ _ _ _ hrec40 hrec73 _ hf
            · rw [if_neg h28] at hf
              refine go_if (t := 169) (f := 141) (L1 := [some (.ref 60), none, some (.int x2), some (.int x3), some (.int q21)]) (st1 := []) (σ1 := σ) rfl h28 ?_
              refine go_n 8 (f := (155, [some (.ref 60), none, some (.int x2), some (.int x3), some (.int q21)], [.int (q21 + 1), .ref 61, .int 12, .ref 72], σ)) rfl ?_
              obtain ⟨h29, hf⟩ := grd hf
              refine go_iald rfl rfl rfl h29 ?_
              refine go_n 6 (f := (165, [some (.ref 60), none, some (.int x2), some (.int x3), some (.int q21)], [.int (q21 + 2), .ref 61, .int (12 * (gi σ 61 (q21 + 1).toNatClampNeg)), .ref 72], σ)) rfl ?_
              obtain ⟨h30, hf⟩ := grd hf
              refine go_iald rfl rfl rfl h30 ?_
              refine go_n 2 (f := (168, [some (.ref 60), none, some (.int x2), some (.int x3), some (.int q21)], [.int 1, .int ((12 * (gi σ 61 (q21 + 1).toNatClampNeg)) + (gi σ 61 (q21 + 2).toNatClampNeg)), .ref 72], σ)) rfl ?_
              obtain ⟨h31, hf⟩ := grd hf
              refine go_bast rfl rfl (Or.inr rfl) h31 ?_
              refine go_e (L1 := [some (.ref 60), none, some (.int x2), some (.int x3), none]) rfl rfl ?_
              exact fX7_knowBy_J169_ok _ _ _ _ _ hrec40 hrec73 _ hf
def fX7_knowBy_L40   (rec40 : (Int32 × Sg) → Option Sg) (s : Int32 × Sg) : Option Sg :=
  match s with
  | (x2, σ) => if x2 < 0 then (fX7_findOnes  σ).bind fun q5 => lp (fX7_knowBy_L187  ) N0 (0, q5) else (fX7_textAt x2).bind fun q9 => if inb q9 39698 then ((fun (z13 : Int32) => if inb x2 20 then lp (fX7_knowBy_L73 x2 rec40) N0 (0, (wi σ 73 x2.toNatClampNeg (am_nr 4 z13))) else none) ((if (gi σ 60 31) < (gi σ 61 q9.toNatClampNeg) then 0 else 1) : Int32)) else none
set_option maxHeartbeats 1500000 in
theorem fX7_knowBy_L40_ok    : ∀ (n : Nat) (x2 : Int32) (σ : Sg) (r : Sg), lp (fX7_knowBy_L40  ) n (x2, σ) = some r → Go true 5 iX7_knowBy (40, [some (.ref 60), none, some (.int x2), none, none], [], σ) (.inl none, r) := by
  intro n
  induction n with
  | zero => intro x2 σ r hf; cases hf
  | succ n ih =>
    intro x2 σ r hf
    have hf : fX7_knowBy_L40   (lp (fX7_knowBy_L40  ) n) (x2, σ) = some r := hf
    have hrec40 := ih
    generalize lp (fX7_knowBy_L40  ) n = rec40 at hf hrec40
    unfold fX7_knowBy_L40 at hf
    dsimp only at hf
    refine go_n 1 (f := (41, [some (.ref 60), none, some (.int x2), none, none], [.int x2], σ)) rfl ?_
    by_cases h4 : x2 < 0
    · rw [if_pos h4] at hf
      refine go_it (t := 181) (f := 44) (L1 := [some (.ref 60), none, some (.int x2), none, none]) (st1 := []) (σ1 := σ) rfl h4 ?_
      refine go_n 1 (f := (182, [some (.ref 60), none, some (.int x2), none, none], [.ref 60], σ)) rfl ?_
      obtain ⟨q5, h6, hf⟩ := bnd hf
      refine go_c (mid := 12110) (args := [.ref 60]) (pc := 185) (L := [some (.ref 60), none, some (.int x2), none, none]) (st := []) (σ := σ) rfl ((fX7_findOnes_ok _ q5 h6).deep (Nat.le_of_ble_eq_true rfl)) ?_
      refine go_n 2 (f := (187, [some (.ref 60), none, some (.int 0), none, none], [], q5)) rfl ?_
      exact fX7_knowBy_L187_ok    N0 _ _ _ hf
    · rw [if_neg h4] at hf
      refine go_if (t := 181) (f := 44) (L1 := [some (.ref 60), none, some (.int x2), none, none]) (st1 := []) (σ1 := σ) rfl h4 ?_
      refine go_n 6 (f := (54, [some (.ref 60), none, some (.int x2), none, none], [.int x2, .ref 61, .int x2, .ref 73], σ)) rfl ?_
      obtain ⟨q9, h10, hf⟩ := bnd hf
      refine go_c (mid := 12105) (args := [.int x2]) (pc := 57) (L := [some (.ref 60), none, some (.int x2), none, none]) (st := [.ref 61, .int x2, .ref 73]) (σ := σ) rfl ((fX7_textAt_ok _ _ q9 h10).deep (Nat.le_of_ble_eq_true rfl)) ?_
      obtain ⟨h11, hf⟩ := grd hf
      refine go_iald rfl rfl rfl h11 ?_
      refine go_n 2 (f := (62, [some (.ref 60), none, some (.int x2), none, none], [.int (gi σ 60 31), .int (gi σ 61 q9.toNatClampNeg), .int x2, .ref 73], σ)) rfl ?_
      refine go_m (f := (70, [some (.ref 60), none, some (.int x2), none, none], [.int ((if (gi σ 60 31) < (gi σ 61 q9.toNatClampNeg) then 0 else 1) : Int32), .int x2, .ref 73], σ)) ?_ (fun hJ32 => ?_)
      · generalize hz13 : ((if (gi σ 60 31) < (gi σ 61 q9.toNatClampNeg) then 0 else 1) : Int32) = z13 at hf ⊢
        have oz13 : am_ok 3 z13 = true := hz13 ▸ (okb rfl rfl)
        try dsimp only at hf
        obtain ⟨h14, hf⟩ := grd hf
        refine go_bast rfl rfl (Or.inr rfl) h14 ?_
        refine go_n 2 (f := (73, [some (.ref 60), none, some (.int x2), some (.int 0), none], [], (wi σ 73 x2.toNatClampNeg (am_nr 4 z13)))) rfl ?_
        exact fX7_knowBy_L73_ok _ _ hrec40 N0 _ _ _ hf
      · by_cases h12 : (gi σ 60 31) < (gi σ 61 q9.toNatClampNeg)
        · refine go_it (t := 69) (f := 65) (L1 := [some (.ref 60), none, some (.int x2), none, none]) (st1 := [.int x2, .ref 73]) (σ1 := σ) rfl h12 ?_
          refine go_n 1 (f := (70, [some (.ref 60), none, some (.int x2), none, none], [.int 0, .int x2, .ref 73], σ)) rfl ?_
          refine go_e (L1 := [some (.ref 60), none, some (.int x2), none, none]) rfl rfl ?_
          simp only [if_pos h12] at hJ32
          first | exact hJ32 | (simp only [if_pos h12]; exact hJ32)
        · refine go_if (t := 69) (f := 65) (L1 := [some (.ref 60), none, some (.int x2), none, none]) (st1 := [.int x2, .ref 73]) (σ1 := σ) rfl h12 ?_
          refine go_n 2 (f := (70, [some (.ref 60), none, some (.int x2), none, none], [.int 1, .int x2, .ref 73], σ)) rfl ?_
          refine go_e (L1 := [some (.ref 60), none, some (.int x2), none, none]) rfl rfl ?_
          simp only [if_neg h12] at hJ32
          first | exact hJ32 | (simp only [if_neg h12]; exact hJ32)
def fX7_knowBy_L11   (rec11 : (Int32 × Sg) → Option Sg) (s : Int32 × Sg) : Option Sg :=
  match s with
  | (x2, σ) => if 240 ≤ x2 then lp (fX7_knowBy_L40  ) N0 (((gi σ 61 3) - 1), σ) else if inb x2 240 then rec11 ((x2 + 1), (wi σ 72 x2.toNatClampNeg 0)) else none
set_option maxHeartbeats 1500000 in
theorem fX7_knowBy_L11_ok    : ∀ (n : Nat) (x2 : Int32) (σ : Sg) (r : Sg), lp (fX7_knowBy_L11  ) n (x2, σ) = some r → Go true 5 iX7_knowBy (11, [some (.ref 60), none, some (.int x2), none, none], [], σ) (.inl none, r) := by
  intro n
  induction n with
  | zero => intro x2 σ r hf; cases hf
  | succ n ih =>
    intro x2 σ r hf
    have hf : fX7_knowBy_L11   (lp (fX7_knowBy_L11  ) n) (x2, σ) = some r := hf
    have hrec11 := ih
    generalize lp (fX7_knowBy_L11  ) n = rec11 at hf hrec11
    unfold fX7_knowBy_L11 at hf
    dsimp only at hf
    refine go_n 2 (f := (15, [some (.ref 60), none, some (.int x2), none, none], [.int 240, .int x2], σ)) rfl ?_
    by_cases h3 : 240 ≤ x2
    · rw [if_pos h3] at hf
      refine go_it (t := 31) (f := 18) (L1 := [some (.ref 60), none, some (.int x2), none, none]) (st1 := []) (σ1 := σ) rfl h3 ?_
      refine go_n 7 (f := (40, [some (.ref 60), none, some (.int ((gi σ 61 3) - 1)), none, none], [], σ)) rfl ?_
      exact fX7_knowBy_L40_ok    N0 _ _ _ hf
    · rw [if_neg h3] at hf
      refine go_if (t := 31) (f := 18) (L1 := [some (.ref 60), none, some (.int x2), none, none]) (st1 := []) (σ1 := σ) rfl h3 ?_
      refine go_n 4 (f := (24, [some (.ref 60), none, some (.int x2), none, none], [.int 0, .int x2, .ref 72], σ)) rfl ?_
      obtain ⟨h33, hf⟩ := grd hf
      refine go_bast rfl rfl (Or.inr rfl) h33 ?_
      refine go_n 2 (f := (11, [some (.ref 60), none, some (.int (x2 + 1)), none, none], [], (wi σ 72 x2.toNatClampNeg 0))) rfl ?_
      exact hrec11 _ _ _ hf
def fX7_knowBy (x1 : Int32) (σ : Sg) : Option Sg :=
  (fX7_findAllDays  (wi σ 60 31 x1)).bind fun q1 => lp (fX7_knowBy_L11  ) N0 (0, q1)
set_option maxHeartbeats 1500000 in
theorem fX7_knowBy_ok (x1 : Int32) (σ : Sg) (r : Sg) (hf : fX7_knowBy x1 σ = some r) : Cl true 5 12107 [.ref 60, .int x1] σ (.inl none, r) := by
  refine ⟨iX7_knowBy, rfl, Nat.le_of_ble_eq_true rfl, Nat.le_of_ble_eq_true rfl, ?_⟩
  show Go true 5 iX7_knowBy (0, [some (.ref 60), some (.int x1), none, none, none], [], σ) (.inl none, r)
  unfold fX7_knowBy at hf
  refine go_n 4 (f := (6, [some (.ref 60), some (.int x1), none, none, none], [.ref 60], (wi σ 60 31 x1))) rfl ?_
  obtain ⟨q1, h2, hf⟩ := bnd hf
  refine go_c (mid := 12108) (args := [.ref 60]) (pc := 9) (L := [some (.ref 60), some (.int x1), none, none, none]) (st := []) (σ := (wi σ 60 31 x1)) rfl ((fX7_findAllDays_ok _ q1 h2).deep (Nat.le_of_ble_eq_true rfl)) ?_
  refine go_n 2 (f := (11, [some (.ref 60), some (.int x1), some (.int 0), none, none], [], q1)) rfl ?_
  refine go_e (L1 := [some (.ref 60), none, some (.int 0), none, none]) rfl rfl ?_
  exact fX7_knowBy_L11_ok    N0 _ _ _ hf
/-! OldWeatherModel.find(IIIII)Z -/
def fX7_find_J166 (x1 : Int32) (x2 : Int32) (x3 : Int32) (x6 : Int64) (x8 : Int64) (x10 : Int32) (rec22 : (Int64 × Int64 × Int32 × Sg) → Option (Int32 × Sg)) (σ : Sg) : Option (Int32 × Sg) :=
  rec22 (x6, x8, (x10 + 1), σ)
set_option maxHeartbeats 1500000 in
theorem fX7_find_J166_ok (x1 : Int32) (x2 : Int32) (x3 : Int32) (x6 : Int64) (x8 : Int64) (x10 : Int32) (rec22 : (Int64 × Int64 × Int32 × Sg) → Option (Int32 × Sg)) (σ : Sg) (hrec22 : ∀ (y6 : Int64) (y8 : Int64) (y10 : Int32) (τ : Sg) (r : (Int32 × Sg)), rec22 (y6, y8, y10, τ) = some r → Go true 4 iX7_find (22, [some (.ref 60), some (.int x1), some (.int x2), some (.int x3), none, none, some (.long y6), none, some (.long y8), none, some (.int y10), none, none], [], τ) (.inl (some (.int (r).1)), (r).2)) (r : (Int32 × Sg)) (hf : fX7_find_J166 x1 x2 x3 x6 x8 x10 rec22 σ = some r) : Go true 4 iX7_find (166, [some (.ref 60), some (.int x1), some (.int x2), some (.int x3), none, none, some (.long x6), none, some (.long x8), none, some (.int x10), none, none], [], σ) (.inl (some (.int (r).1)), (r).2) := by
  unfold fX7_find_J166 at hf
  refine go_n 2 (f := (22, [some (.ref 60), some (.int x1), some (.int x2), some (.int x3), none, none, some (.long x6), none, some (.long x8), none, some (.int (x10 + 1)), none, none], [], σ)) rfl ?_
  exact hrec22 _ _ _ _ _ hf
def fX7_find_J160 (x1 : Int32) (x2 : Int32) (x3 : Int32) (x6 : Int64) (x8 : Int64) (x10 : Int32) (x11 : Int32) (rec22 : (Int64 × Int64 × Int32 × Sg) → Option (Int32 × Sg)) (rec36 : (Int64 × Int64 × Int32 × Sg) → Option (Int32 × Sg)) (σ : Sg) : Option (Int32 × Sg) :=
  rec36 (x6, x8, (x11 + 1), σ)
set_option maxHeartbeats 1500000 in
theorem fX7_find_J160_ok (x1 : Int32) (x2 : Int32) (x3 : Int32) (x6 : Int64) (x8 : Int64) (x10 : Int32) (x11 : Int32) (rec22 : (Int64 × Int64 × Int32 × Sg) → Option (Int32 × Sg)) (rec36 : (Int64 × Int64 × Int32 × Sg) → Option (Int32 × Sg)) (σ : Sg) (hrec22 : ∀ (y6 : Int64) (y8 : Int64) (y10 : Int32) (τ : Sg) (r : (Int32 × Sg)), rec22 (y6, y8, y10, τ) = some r → Go true 4 iX7_find (22, [some (.ref 60), some (.int x1), some (.int x2), some (.int x3), none, none, some (.long y6), none, some (.long y8), none, some (.int y10), none, none], [], τ) (.inl (some (.int (r).1)), (r).2)) (hrec36 : ∀ (y6 : Int64) (y8 : Int64) (y11 : Int32) (τ : Sg) (r : (Int32 × Sg)), rec36 (y6, y8, y11, τ) = some r → Go true 4 iX7_find (36, [some (.ref 60), some (.int x1), some (.int x2), some (.int x3), none, none, some (.long y6), none, some (.long y8), none, some (.int x10), some (.int y11), none], [], τ) (.inl (some (.int (r).1)), (r).2)) (r : (Int32 × Sg)) (hf : fX7_find_J160 x1 x2 x3 x6 x8 x10 x11 rec22 rec36 σ = some r) : Go true 4 iX7_find (160, [some (.ref 60), some (.int x1), some (.int x2), some (.int x3), none, none, some (.long x6), none, some (.long x8), none, some (.int x10), some (.int x11), none], [], σ) (.inl (some (.int (r).1)), (r).2) := by
  unfold fX7_find_J160 at hf
  refine go_n 2 (f := (36, [some (.ref 60), some (.int x1), some (.int x2), some (.int x3), none, none, some (.long x6), none, some (.long x8), none, some (.int x10), some (.int (x11 + 1)), none], [], σ)) rfl ?_
  exact hrec36 _ _ _ _ _ hf
def fX7_find_L36 (x1 : Int32) (x2 : Int32) (x3 : Int32) (x10 : Int32) (rec22 : (Int64 × Int64 × Int32 × Sg) → Option (Int32 × Sg)) (rec36 : (Int64 × Int64 × Int32 × Sg) → Option (Int32 × Sg)) (s : Int64 × Int64 × Int32 × Sg) : Option (Int32 × Sg) :=
  match s with
  | (x6, x8, x11, σ) => (fX7_textAt x10).bind fun q7 => if inb (q7 + 1) 39698 then if (gi σ 61 (q7 + 1).toNatClampNeg) ≤ x11 then fX7_find_J166 x1 x2 x3 x6 x8 x10 rec22 σ else if inb x10 20 then if (gi σ 73 x10.toNatClampNeg) = 0 then fX7_find_J166 x1 x2 x3 x6 x8 x10 rec22 σ else (fX7_clauseAt x10 x11).bind fun q13 => if inb q13 39698 then if (gi σ 61 q13.toNatClampNeg) ≠ x1 then fX7_find_J160 x1 x2 x3 x6 x8 x10 x11 rec22 rec36 σ else if inb (q13 + 1) 39698 then if (gi σ 61 (q13 + 1).toNatClampNeg) ≠ x2 then fX7_find_J160 x1 x2 x3 x6 x8 x10 x11 rec22 rec36 σ else if inb (q13 + 2) 39698 then if (gi σ 61 (q13 + 2).toNatClampNeg) ≠ x3 then fX7_find_J160 x1 x2 x3 x6 x8 x10 x11 rec22 rec36 σ else if inb ((12 * x10) + x11) 240 then if (gi σ 72 ((12 * x10) + x11).toNatClampNeg) ≠ 0 then fX7_find_J160 x1 x2 x3 x6 x8 x10 x11 rec22 rec36 σ else (fX7_holds x10 q13 σ).bind fun q23 => if q23.1 = 0 then fX7_find_J160 x1 x2 x3 x6 x8 x10 x11 rec22 rec36 q23.2 else fX7_find_J160 x1 x2 x3 (gl q23.2 60 38) (gl q23.2 60 39) x10 x11 rec22 rec36 (wi q23.2 60 40 ((12 * x10) + x11)) else none else none else none else none else none else none
set_option maxHeartbeats 1500000 in
theorem fX7_find_L36_ok (x1 : Int32) (x2 : Int32) (x3 : Int32) (x10 : Int32) (rec22 : (Int64 × Int64 × Int32 × Sg) → Option (Int32 × Sg)) (hrec22 : ∀ (y6 : Int64) (y8 : Int64) (y10 : Int32) (τ : Sg) (r : (Int32 × Sg)), rec22 (y6, y8, y10, τ) = some r → Go true 4 iX7_find (22, [some (.ref 60), some (.int x1), some (.int x2), some (.int x3), none, none, some (.long y6), none, some (.long y8), none, some (.int y10), none, none], [], τ) (.inl (some (.int (r).1)), (r).2)) : ∀ (n : Nat) (x6 : Int64) (x8 : Int64) (x11 : Int32) (σ : Sg) (r : (Int32 × Sg)), lp (fX7_find_L36 x1 x2 x3 x10 rec22) n (x6, x8, x11, σ) = some r → Go true 4 iX7_find (36, [some (.ref 60), some (.int x1), some (.int x2), some (.int x3), none, none, some (.long x6), none, some (.long x8), none, some (.int x10), some (.int x11), none], [], σ) (.inl (some (.int (r).1)), (r).2) := by
  intro n
  induction n with
  | zero => intro x6 x8 x11 σ r hf; cases hf
  | succ n ih =>
    intro x6 x8 x11 σ r hf
    have hf : fX7_find_L36 x1 x2 x3 x10 rec22 (lp (fX7_find_L36 x1 x2 x3 x10 rec22) n) (x6, x8, x11, σ) = some r := hf
    have hrec36 := ih
    generalize lp (fX7_find_L36 x1 x2 x3 x10 rec22) n = rec36 at hf hrec36
    unfold fX7_find_L36 at hf
    dsimp only at hf
    refine go_n 4 (f := (44, [some (.ref 60), some (.int x1), some (.int x2), some (.int x3), none, none, some (.long x6), none, some (.long x8), none, some (.int x10), some (.int x11), none], [.int x10, .ref 61, .int x11], σ)) rfl ?_
    obtain ⟨q7, h8, hf⟩ := bnd hf
    refine go_c (mid := 12105) (args := [.int x10]) (pc := 47) (L := [some (.ref 60), some (.int x1), some (.int x2), some (.int x3), none, none, some (.long x6), none, some (.long x8), none, some (.int x10), some (.int x11), none]) (st := [.ref 61, .int x11]) (σ := σ) rfl ((fX7_textAt_ok _ _ q7 h8).deep (Nat.le_of_ble_eq_true rfl)) ?_
    refine go_n 2 (f := (49, [some (.ref 60), some (.int x1), some (.int x2), some (.int x3), none, none, some (.long x6), none, some (.long x8), none, some (.int x10), some (.int x11), none], [.int (q7 + 1), .ref 61, .int x11], σ)) rfl ?_
    obtain ⟨h9, hf⟩ := grd hf
    refine go_iald rfl rfl rfl h9 ?_
    by_cases h10 : (gi σ 61 (q7 + 1).toNatClampNeg) ≤ x11
    · rw [if_pos h10] at hf
      refine go_it (t := 166) (f := 53) (L1 := [some (.ref 60), some (.int x1), some (.int x2), some (.int x3), none, none, some (.long x6), none, some (.long x8), none, some (.int x10), some (.int x11), none]) (st1 := []) (σ1 := σ) rfl h10 ?_
      refine go_e (L1 := [some (.ref 60), some (.int x1), some (.int x2), some (.int x3), none, none, some (.long x6), none, some (.long x8), none, some (.int x10), none, none]) rfl rfl ?_
      exact fX7_find_J166_ok _ _ _ _ _ _ _ _ hrec22 _ hf
    · rw [if_neg h10] at hf
      refine go_if (t := 166) (f := 53) (L1 := [some (.ref 60), some (.int x1), some (.int x2), some (.int x3), none, none, some (.long x6), none, some (.long x8), none, some (.int x10), some (.int x11), none]) (st1 := []) (σ1 := σ) rfl h10 ?_
      refine go_n 3 (f := (59, [some (.ref 60), some (.int x1), some (.int x2), some (.int x3), none, none, some (.long x6), none, some (.long x8), none, some (.int x10), some (.int x11), none], [.int x10, .ref 73], σ)) rfl ?_
      obtain ⟨h11, hf⟩ := grd hf
      refine go_bald rfl rfl (Or.inr rfl) h11 ?_
      by_cases h12 : (gi σ 73 x10.toNatClampNeg) = 0
      · rw [if_pos h12] at hf
        refine go_it (t := 166) (f := 63) (L1 := [some (.ref 60), some (.int x1), some (.int x2), some (.int x3), none, none, some (.long x6), none, some (.long x8), none, some (.int x10), some (.int x11), none]) (st1 := []) (σ1 := σ) rfl h12 ?_
        refine go_e (L1 := [some (.ref 60), some (.int x1), some (.int x2), some (.int x3), none, none, some (.long x6), none, some (.long x8), none, some (.int x10), none, none]) rfl rfl ?_
        exact fX7_find_J166_ok _ _ _ _ _ _ _ _ hrec22 _ hf
      · rw [if_neg h12] at hf
        refine go_if (t := 166) (f := 63) (L1 := [some (.ref 60), some (.int x1), some (.int x2), some (.int x3), none, none, some (.long x6), none, some (.long x8), none, some (.int x10), some (.int x11), none]) (st1 := []) (σ1 := σ) rfl h12 ?_
        refine go_n 2 (f := (67, [some (.ref 60), some (.int x1), some (.int x2), some (.int x3), none, none, some (.long x6), none, some (.long x8), none, some (.int x10), some (.int x11), none], [.int x11, .int x10], σ)) rfl ?_
        obtain ⟨q13, h14, hf⟩ := bnd hf
        refine go_c (mid := 12109) (args := [.int x10, .int x11]) (pc := 70) (L := [some (.ref 60), some (.int x1), some (.int x2), some (.int x3), none, none, some (.long x6), none, some (.long x8), none, some (.int x10), some (.int x11), none]) (st := []) (σ := σ) rfl ((fX7_clauseAt_ok _ _ _ q13 h14).deep (Nat.le_of_ble_eq_true rfl)) ?_
        refine go_n 4 (f := (78, [some (.ref 60), some (.int x1), some (.int x2), some (.int x3), none, none, some (.long x6), none, some (.long x8), none, some (.int x10), some (.int x11), some (.int q13)], [.int q13, .ref 61], σ)) rfl ?_
        obtain ⟨h15, hf⟩ := grd hf
        refine go_iald rfl rfl rfl h15 ?_
        refine go_n 1 (f := (80, [some (.ref 60), some (.int x1), some (.int x2), some (.int x3), none, none, some (.long x6), none, some (.long x8), none, some (.int x10), some (.int x11), some (.int q13)], [.int x1, .int (gi σ 61 q13.toNatClampNeg)], σ)) rfl ?_
        by_cases h16 : (gi σ 61 q13.toNatClampNeg) ≠ x1
        · rw [if_pos h16] at hf
          refine go_it (t := 160) (f := 83) (L1 := [some (.ref 60), some (.int x1), some (.int x2), some (.int x3), none, none, some (.long x6), none, some (.long x8), none, some (.int x10), some (.int x11), some (.int q13)]) (st1 := []) (σ1 := σ) rfl h16 ?_
          refine go_e (L1 := [some (.ref 60), some (.int x1), some (.int x2), some (.int x3), none, none, some (.long x6), none, some (.long x8), none, some (.int x10), some (.int x11), none]) rfl rfl ?_
          exact fX7_find_J160_ok _ _ _ _ _ _ _ _ _ _ hrec22 hrec36 _ hf
        · rw [if_neg h16] at hf
          refine go_if (t := 160) (f := 83) (L1 := [some (.ref 60), some (.int x1), some (.int x2), some (.int x3), none, none, some (.long x6), none, some (.long x8), none, some (.int x10), some (.int x11), some (.int q13)]) (st1 := []) (σ1 := σ) rfl h16 ?_
          refine go_n 5 (f := (91, [some (.ref 60), some (.int x1), some (.int x2), some (.int x3), none, none, some (.long x6), none, some (.long x8), none, some (.int x10), some (.int x11), some (.int q13)], [.int (q13 + 1), .ref 61], σ)) rfl ?_
          obtain ⟨h17, hf⟩ := grd hf
          refine go_iald rfl rfl rfl h17 ?_
          refine go_n 1 (f := (93, [some (.ref 60), some (.int x1), some (.int x2), some (.int x3), none, none, some (.long x6), none, some (.long x8), none, some (.int x10), some (.int x11), some (.int q13)], [.int x2, .int (gi σ 61 (q13 + 1).toNatClampNeg)], σ)) rfl ?_
          by_cases h18 : (gi σ 61 (q13 + 1).toNatClampNeg) ≠ x2
          · rw [if_pos h18] at hf
            refine go_it (t := 160) (f := 96) (L1 := [some (.ref 60), some (.int x1), some (.int x2), some (.int x3), none, none, some (.long x6), none, some (.long x8), none, some (.int x10), some (.int x11), some (.int q13)]) (st1 := []) (σ1 := σ) rfl h18 ?_
            refine go_e (L1 := [some (.ref 60), some (.int x1), some (.int x2), some (.int x3), none, none, some (.long x6), none, some (.long x8), none, some (.int x10), some (.int x11), none]) rfl rfl ?_
            exact fX7_find_J160_ok _ _ _ _ _ _ _ _ _ _ hrec22 hrec36 _ hf
          · rw [if_neg h18] at hf
            refine go_if (t := 160) (f := 96) (L1 := [some (.ref 60), some (.int x1), some (.int x2), some (.int x3), none, none, some (.long x6), none, some (.long x8), none, some (.int x10), some (.int x11), some (.int q13)]) (st1 := []) (σ1 := σ) rfl h18 ?_
            refine go_n 5 (f := (104, [some (.ref 60), some (.int x1), some (.int x2), some (.int x3), none, none, some (.long x6), none, some (.long x8), none, some (.int x10), some (.int x11), some (.int q13)], [.int (q13 + 2), .ref 61], σ)) rfl ?_
            obtain ⟨h19, hf⟩ := grd hf
            refine go_iald rfl rfl rfl h19 ?_
            refine go_n 1 (f := (106, [some (.ref 60), some (.int x1), some (.int x2), some (.int x3), none, none, some (.long x6), none, some (.long x8), none, some (.int x10), some (.int x11), some (.int q13)], [.int x3, .int (gi σ 61 (q13 + 2).toNatClampNeg)], σ)) rfl ?_
            by_cases h20 : (gi σ 61 (q13 + 2).toNatClampNeg) ≠ x3
            · rw [if_pos h20] at hf
              refine go_it (t := 160) (f := 109) (L1 := [some (.ref 60), some (.int x1), some (.int x2), some (.int x3), none, none, some (.long x6), none, some (.long x8), none, some (.int x10), some (.int x11), some (.int q13)]) (st1 := []) (σ1 := σ) rfl h20 ?_
              refine go_e (L1 := [some (.ref 60), some (.int x1), some (.int x2), some (.int x3), none, none, some (.long x6), none, some (.long x8), none, some (.int x10), some (.int x11), none]) rfl rfl ?_
              exact fX7_find_J160_ok _ _ _ _ _ _ _ _ _ _ hrec22 hrec36 _ hf
            · rw [if_neg h20] at hf
              refine go_if (t := 160) (f := 109) (L1 := [some (.ref 60), some (.int x1), some (.int x2), some (.int x3), none, none, some (.long x6), none, some (.long x8), none, some (.int x10), some (.int x11), some (.int q13)]) (st1 := []) (σ1 := σ) rfl h20 ?_
              refine go_n 7 (f := (121, [some (.ref 60), some (.int x1), some (.int x2), some (.int x3), none, none, some (.long x6), none, some (.long x8), none, some (.int x10), some (.int x11), some (.int q13)], [.int ((12 * x10) + x11), .ref 72], σ)) rfl ?_
              obtain ⟨h21, hf⟩ := grd hf
              refine go_bald rfl rfl (Or.inr rfl) h21 ?_
              by_cases h22 : (gi σ 72 ((12 * x10) + x11).toNatClampNeg) ≠ 0
              · rw [if_pos h22] at hf
                refine go_it (t := 160) (f := 125) (L1 := [some (.ref 60), some (.int x1), some (.int x2), some (.int x3), none, none, some (.long x6), none, some (.long x8), none, some (.int x10), some (.int x11), some (.int q13)]) (st1 := []) (σ1 := σ) rfl h22 ?_
                refine go_e (L1 := [some (.ref 60), some (.int x1), some (.int x2), some (.int x3), none, none, some (.long x6), none, some (.long x8), none, some (.int x10), some (.int x11), none]) rfl rfl ?_
                exact fX7_find_J160_ok _ _ _ _ _ _ _ _ _ _ hrec22 hrec36 _ hf
              · rw [if_neg h22] at hf
                refine go_if (t := 160) (f := 125) (L1 := [some (.ref 60), some (.int x1), some (.int x2), some (.int x3), none, none, some (.long x6), none, some (.long x8), none, some (.int x10), some (.int x11), some (.int q13)]) (st1 := []) (σ1 := σ) rfl h22 ?_
                refine go_n 3 (f := (130, [some (.ref 60), some (.int x1), some (.int x2), some (.int x3), none, none, some (.long x6), none, some (.long x8), none, some (.int x10), some (.int x11), some (.int q13)], [.int q13, .int x10, .ref 60], σ)) rfl ?_
                obtain ⟨q23, h24, hf⟩ := bnd hf
                refine go_c (mid := 12122) (args := [.ref 60, .int x10, .int q13]) (pc := 133) (L := [some (.ref 60), some (.int x1), some (.int x2), some (.int x3), none, none, some (.long x6), none, some (.long x8), none, some (.int x10), some (.int x11), some (.int q13)]) (st := []) (σ := σ) rfl ((fX7_holds_ok _ _ _ q23 h24).deep (Nat.le_of_ble_eq_true rfl)) ?_
                by_cases h25 : q23.1 = 0
                · rw [if_pos h25] at hf
                  refine go_it (t := 160) (f := 136) (L1 := [some (.ref 60), some (.int x1), some (.int x2), some (.int x3), none, none, some (.long x6), none, some (.long x8), none, some (.int x10), some (.int x11), some (.int q13)]) (st1 := []) (σ1 := q23.2) rfl h25 ?_
                  refine go_e (L1 := [some (.ref 60), some (.int x1), some (.int x2), some (.int x3), none, none, some (.long x6), none, some (.long x8), none, some (.int x10), some (.int x11), none]) rfl rfl ?_
                  exact fX7_find_J160_ok _ _ _ _ _ _ _ _ _ _ hrec22 hrec36 _ hf
                · rw [if_neg h25] at hf
                  refine go_if (t := 160) (f := 136) (L1 := [some (.ref 60), some (.int x1), some (.int x2), some (.int x3), none, none, some (.long x6), none, some (.long x8), none, some (.int x10), some (.int x11), some (.int q13)]) (st1 := []) (σ1 := q23.2) rfl h25 ?_
                  refine go_n 10 (f := (154, [some (.ref 60), some (.int x1), some (.int x2), some (.int x3), none, none, some (.long (gl q23.2 60 38)), none, some (.long x8), none, some (.int x10), some (.int x11), some (.int q13)], [], (wi q23.2 60 40 ((12 * x10) + x11)))) rfl ?_
                  refine go_n 3 (f := (160, [some (.ref 60), some (.int x1), some (.int x2), some (.int x3), none, none, some (.long (gl q23.2 60 38)), none, some (.long (gl q23.2 60 39)), none, some (.int x10), some (.int x11), some (.int q13)], [], (wi q23.2 60 40 ((12 * x10) + x11)))) rfl ?_
                  refine go_e (L1 := [some (.ref 60), some (.int x1), some (.int x2), some (.int x3), none, none, some (.long (gl q23.2 60 38)), none, some (.long (gl q23.2 60 39)), none, some (.int x10), some (.int x11), none]) rfl rfl ?_
                  exact fX7_find_J160_ok _ _ _ _ _ _ _ _ _ _ hrec22 hrec36 _ hf
def fX7_find_L22 (x1 : Int32) (x2 : Int32) (x3 : Int32)  (rec22 : (Int64 × Int64 × Int32 × Sg) → Option (Int32 × Sg)) (s : Int64 × Int64 × Int32 × Sg) : Option (Int32 × Sg) :=
  match s with
  | (x6, x8, x10, σ) => if (gi σ 61 3) ≤ x10 then ((fun (z5 : Int32) => some (z5, (wl (wl σ 60 38 x6) 60 39 x8))) ((if (gi σ 60 40) = (-1) then 0 else 1) : Int32)) else lp (fX7_find_L36 x1 x2 x3 x10 rec22) N0 (x6, x8, 0, σ)
set_option maxHeartbeats 1500000 in
theorem fX7_find_L22_ok (x1 : Int32) (x2 : Int32) (x3 : Int32)   : ∀ (n : Nat) (x6 : Int64) (x8 : Int64) (x10 : Int32) (σ : Sg) (r : (Int32 × Sg)), lp (fX7_find_L22 x1 x2 x3 ) n (x6, x8, x10, σ) = some r → Go true 4 iX7_find (22, [some (.ref 60), some (.int x1), some (.int x2), some (.int x3), none, none, some (.long x6), none, some (.long x8), none, some (.int x10), none, none], [], σ) (.inl (some (.int (r).1)), (r).2) := by
  intro n
  induction n with
  | zero => intro x6 x8 x10 σ r hf; cases hf
  | succ n ih =>
    intro x6 x8 x10 σ r hf
    have hf : fX7_find_L22 x1 x2 x3  (lp (fX7_find_L22 x1 x2 x3 ) n) (x6, x8, x10, σ) = some r := hf
    have hrec22 := ih
    generalize lp (fX7_find_L22 x1 x2 x3 ) n = rec22 at hf hrec22
    unfold fX7_find_L22 at hf
    dsimp only at hf
    refine go_n 5 (f := (30, [some (.ref 60), some (.int x1), some (.int x2), some (.int x3), none, none, some (.long x6), none, some (.long x8), none, some (.int x10), none, none], [.int (gi σ 61 3), .int x10], σ)) rfl ?_
    by_cases h3 : (gi σ 61 3) ≤ x10
    · rw [if_pos h3] at hf
      refine go_it (t := 172) (f := 33) (L1 := [some (.ref 60), some (.int x1), some (.int x2), some (.int x3), none, none, some (.long x6), none, some (.long x8), none, some (.int x10), none, none]) (st1 := []) (σ1 := σ) rfl h3 ?_
      refine go_n 6 (f := (184, [some (.ref 60), some (.int x1), some (.int x2), some (.int x3), none, none, some (.long x6), none, some (.long x8), none, some (.int x10), none, none], [], (wl (wl σ 60 38 x6) 60 39 x8))) rfl ?_
      refine go_n 3 (f := (189, [some (.ref 60), some (.int x1), some (.int x2), some (.int x3), none, none, some (.long x6), none, some (.long x8), none, some (.int x10), none, none], [.int (-1), .int (gi σ 60 40)], (wl (wl σ 60 38 x6) 60 39 x8))) rfl ?_
      refine go_m (f := (197, [none, none, none, none, none, none, none, none, none, none, none, none, none], [.int ((if (gi σ 60 40) = (-1) then 0 else 1) : Int32)], (wl (wl σ 60 38 x6) 60 39 x8))) ?_ (fun hJ6 => ?_)
      · generalize hz5 : ((if (gi σ 60 40) = (-1) then 0 else 1) : Int32) = z5 at hf ⊢
        have oz5 : am_ok 3 z5 = true := hz5 ▸ (okb rfl rfl)
        try dsimp only at hf
        cases hf
        exact go_ret rfl rfl (Or.inr (Or.inl ⟨rfl, oz5⟩))
      · by_cases h4 : (gi σ 60 40) = (-1)
        · refine go_it (t := 196) (f := 192) (L1 := [some (.ref 60), some (.int x1), some (.int x2), some (.int x3), none, none, some (.long x6), none, some (.long x8), none, some (.int x10), none, none]) (st1 := []) (σ1 := (wl (wl σ 60 38 x6) 60 39 x8)) rfl h4 ?_
          refine go_n 1 (f := (197, [some (.ref 60), some (.int x1), some (.int x2), some (.int x3), none, none, some (.long x6), none, some (.long x8), none, some (.int x10), none, none], [.int 0], (wl (wl σ 60 38 x6) 60 39 x8))) rfl ?_
          refine go_e (L1 := [none, none, none, none, none, none, none, none, none, none, none, none, none]) rfl rfl ?_
          simp only [if_pos h4] at hJ6
          first | exact hJ6 | (simp only [if_pos h4]; exact hJ6)
        · refine go_if (t := 196) (f := 192) (L1 := [some (.ref 60), some (.int x1), some (.int x2), some (.int x3), none, none, some (.long x6), none, some (.long x8), none, some (.int x10), none, none]) (st1 := []) (σ1 := (wl (wl σ 60 38 x6) 60 39 x8)) rfl h4 ?_
          refine go_n 2 (f := (197, [some (.ref 60), some (.int x1), some (.int x2), some (.int x3), none, none, some (.long x6), none, some (.long x8), none, some (.int x10), none, none], [.int 1], (wl (wl σ 60 38 x6) 60 39 x8))) rfl ?_
          refine go_e (L1 := [none, none, none, none, none, none, none, none, none, none, none, none, none]) rfl rfl ?_
          simp only [if_neg h4] at hJ6
          first | exact hJ6 | (simp only [if_neg h4]; exact hJ6)
    · rw [if_neg h3] at hf
      refine go_if (t := 172) (f := 33) (L1 := [some (.ref 60), some (.int x1), some (.int x2), some (.int x3), none, none, some (.long x6), none, some (.long x8), none, some (.int x10), none, none]) (st1 := []) (σ1 := σ) rfl h3 ?_
      refine go_n 2 (f := (36, [some (.ref 60), some (.int x1), some (.int x2), some (.int x3), none, none, some (.long x6), none, some (.long x8), none, some (.int x10), some (.int 0), none], [], σ)) rfl ?_
      exact fX7_find_L36_ok _ _ _ _ _ hrec22 N0 _ _ _ _ _ hf
def fX7_find (x1 : Int32) (x2 : Int32) (x3 : Int32) (x4 : Int32) (x5 : Int32) (σ : Sg) : Option (Int32 × Sg) :=
  (fX7_setFor x4 x5 (wi σ 60 40 (-1))).bind fun q1 => lp (fX7_find_L22 x1 x2 x3 ) N0 (0, 0, 0, q1)
set_option maxHeartbeats 1500000 in
theorem fX7_find_ok (x1 : Int32) (x2 : Int32) (x3 : Int32) (x4 : Int32) (x5 : Int32) (σ : Sg) (r : (Int32 × Sg)) (hf : fX7_find x1 x2 x3 x4 x5 σ = some r) : Cl true 4 12118 [.ref 60, .int x1, .int x2, .int x3, .int x4, .int x5] σ (.inl (some (.int (r).1)), (r).2) := by
  refine ⟨iX7_find, rfl, Nat.le_of_ble_eq_true rfl, Nat.le_of_ble_eq_true rfl, ?_⟩
  show Go true 4 iX7_find (0, [some (.ref 60), some (.int x1), some (.int x2), some (.int x3), some (.int x4), some (.int x5), none, none, none, none, none, none, none], [], σ) (.inl (some (.int (r).1)), (r).2)
  unfold fX7_find at hf
  refine go_n 5 (f := (8, [some (.ref 60), some (.int x1), some (.int x2), some (.int x3), some (.int x4), some (.int x5), some (.long 0), none, none, none, none, none, none], [], (wi σ 60 40 (-1)))) rfl ?_
  refine go_n 5 (f := (16, [some (.ref 60), some (.int x1), some (.int x2), some (.int x3), some (.int x4), some (.int x5), some (.long 0), none, some (.long 0), none, none, none, none], [.int x5, .int x4, .ref 60], (wi σ 60 40 (-1)))) rfl ?_
  obtain ⟨q1, h2, hf⟩ := bnd hf
  refine go_c (mid := 12119) (args := [.ref 60, .int x4, .int x5]) (pc := 19) (L := [some (.ref 60), some (.int x1), some (.int x2), some (.int x3), some (.int x4), some (.int x5), some (.long 0), none, some (.long 0), none, none, none, none]) (st := []) (σ := (wi σ 60 40 (-1))) rfl ((fX7_setFor_ok _ _ _ q1 h2).deep (Nat.le_of_ble_eq_true rfl)) ?_
  refine go_n 2 (f := (22, [some (.ref 60), some (.int x1), some (.int x2), some (.int x3), some (.int x4), some (.int x5), some (.long 0), none, some (.long 0), none, some (.int 0), none, none], [], q1)) rfl ?_
  refine go_e (L1 := [some (.ref 60), some (.int x1), some (.int x2), some (.int x3), none, none, some (.long 0), none, some (.long 0), none, some (.int 0), none, none]) rfl rfl ?_
  exact fX7_find_L22_ok _ _ _   N0 _ _ _ _ _ hf
/-! OldWeatherModel.same(II)I -/
def fX7_same (x1 : Int32) (x2 : Int32) (σ : Sg) : Option (Int32 × Sg) :=
  (fX7_isSource x1 (wi σ 60 0 0)).bind fun q1 => if q1 = 0 then some ((-1), (wi σ 60 0 0)) else (fX7_isKnown x2).bind fun q4 => if q4 ≠ 0 then (fX7_knowBy x2 (wi σ 60 0 0)).bind fun q7 => if inb x1 16 then some ((gi q7 80 x1.toNatClampNeg), q7) else none else some ((-1), (wi σ 60 0 0))
set_option maxHeartbeats 1500000 in
theorem fX7_same_ok (x1 : Int32) (x2 : Int32) (σ : Sg) (r : (Int32 × Sg)) (hf : fX7_same x1 x2 σ = some r) : Cl true 6 12137 [.ref 60, .int x1, .int x2] σ (.inl (some (.int (r).1)), (r).2) := by
  refine ⟨iX7_same, rfl, Nat.le_of_ble_eq_true rfl, Nat.le_of_ble_eq_true rfl, ?_⟩
  show Go true 6 iX7_same (0, [some (.ref 60), some (.int x1), some (.int x2)], [], σ) (.inl (some (.int (r).1)), (r).2)
  unfold fX7_same at hf
  refine go_n 5 (f := (7, [some (.ref 60), some (.int x1), some (.int x2)], [.int x1, .ref 60], (wi σ 60 0 0))) rfl ?_
  obtain ⟨q1, h2, hf⟩ := bnd hf
  refine go_c (mid := 12053) (args := [.ref 60, .int x1]) (pc := 10) (L := [some (.ref 60), some (.int x1), some (.int x2)]) (st := []) (σ := (wi σ 60 0 0)) rfl ((fX7_isSource_ok _ _ q1 h2).deep (Nat.le_of_ble_eq_true rfl)) ?_
  by_cases h3 : q1 = 0
  · rw [if_pos h3] at hf
    refine go_it (t := 20) (f := 13) (L1 := [some (.ref 60), some (.int x1), some (.int x2)]) (st1 := []) (σ1 := (wi σ 60 0 0)) rfl h3 ?_
    refine go_e (L1 := [none, none, none]) rfl rfl ?_
    refine go_n 1 (f := (21, [none, none, none], [.int (-1)], (wi σ 60 0 0))) rfl ?_
    cases hf
    exact go_r rfl
  · rw [if_neg h3] at hf
    refine go_if (t := 20) (f := 13) (L1 := [some (.ref 60), some (.int x1), some (.int x2)]) (st1 := []) (σ1 := (wi σ 60 0 0)) rfl h3 ?_
    refine go_n 1 (f := (14, [some (.ref 60), some (.int x1), some (.int x2)], [.int x2], (wi σ 60 0 0))) rfl ?_
    obtain ⟨q4, h5, hf⟩ := bnd hf
    refine go_c (mid := 12057) (args := [.int x2]) (pc := 17) (L := [some (.ref 60), some (.int x1), some (.int x2)]) (st := []) (σ := (wi σ 60 0 0)) rfl ((fX7_isKnown_ok _ _ q4 h5).deep (Nat.le_of_ble_eq_true rfl)) ?_
    by_cases h6 : q4 ≠ 0
    · rw [if_pos h6] at hf
      refine go_it (t := 22) (f := 20) (L1 := [some (.ref 60), some (.int x1), some (.int x2)]) (st1 := []) (σ1 := (wi σ 60 0 0)) rfl h6 ?_
      refine go_n 2 (f := (24, [some (.ref 60), some (.int x1), some (.int x2)], [.int x2, .ref 60], (wi σ 60 0 0))) rfl ?_
      obtain ⟨q7, h8, hf⟩ := bnd hf
      refine go_c (mid := 12107) (args := [.ref 60, .int x2]) (pc := 27) (L := [some (.ref 60), some (.int x1), some (.int x2)]) (st := []) (σ := (wi σ 60 0 0)) rfl ((fX7_knowBy_ok _ _ q7 h8).deep (Nat.le_of_ble_eq_true rfl)) ?_
      refine go_n 3 (f := (32, [some (.ref 60), some (.int x1), some (.int x2)], [.int x1, .ref 80], q7)) rfl ?_
      obtain ⟨h9, hf⟩ := grd hf
      refine go_iald rfl rfl rfl h9 ?_
      cases hf
      exact go_r rfl
    · rw [if_neg h6] at hf
      refine go_if (t := 22) (f := 20) (L1 := [some (.ref 60), some (.int x1), some (.int x2)]) (st1 := []) (σ1 := (wi σ 60 0 0)) rfl h6 ?_
      refine go_e (L1 := [none, none, none]) rfl rfl ?_
      refine go_n 1 (f := (21, [none, none, none], [.int (-1)], (wi σ 60 0 0))) rfl ?_
      cases hf
      exact go_r rfl
/-! OldWeatherModel.weightOf(II)J -/
def fX7_weightOf (x1 : Int32) (x2 : Int32) (σ : Sg) : Option (Int64 × Sg) :=
  (fX7_get x1 0 σ).bind fun q1 => (fX7_find 6 q1 0 x1 x2 σ).bind fun q3 => ((fun (z7 : Int64) => some (z7, q3.2)) (if q3.1 ≠ 0 then (if 0 ≤ (gl q3.2 60 38) then (gl q3.2 60 38) else 0) else 1))
set_option maxHeartbeats 1500000 in
theorem fX7_weightOf_ok (x1 : Int32) (x2 : Int32) (σ : Sg) (r : (Int64 × Sg)) (hf : fX7_weightOf x1 x2 σ = some r) : Cl true 5 12144 [.ref 60, .int x1, .int x2] σ (.inl (some (.long (r).1)), (r).2) := by
  refine ⟨iX7_weightOf, rfl, Nat.le_of_ble_eq_true rfl, Nat.le_of_ble_eq_true rfl, ?_⟩
  show Go true 5 iX7_weightOf (0, [some (.ref 60), some (.int x1), some (.int x2), none], [], σ) (.inl (some (.long (r).1)), (r).2)
  unfold fX7_weightOf at hf
  refine go_n 5 (f := (6, [some (.ref 60), some (.int x1), some (.int x2), none], [.int 0, .int x1, .ref 60, .int 6, .ref 60], σ)) rfl ?_
  obtain ⟨q1, h2, hf⟩ := bnd hf
  refine go_c (mid := 12067) (args := [.ref 60, .int x1, .int 0]) (pc := 9) (L := [some (.ref 60), some (.int x1), some (.int x2), none]) (st := [.int 6, .ref 60]) (σ := σ) rfl ((fX7_get_ok _ _ _ q1 h2).deep (Nat.le_of_ble_eq_true rfl)) ?_
  refine go_n 3 (f := (12, [some (.ref 60), some (.int x1), some (.int x2), none], [.int x2, .int x1, .int 0, .int q1, .int 6, .ref 60], σ)) rfl ?_
  obtain ⟨q3, h4, hf⟩ := bnd hf
  refine go_c (mid := 12118) (args := [.ref 60, .int 6, .int q1, .int 0, .int x1, .int x2]) (pc := 15) (L := [some (.ref 60), some (.int x1), some (.int x2), none]) (st := []) (σ := σ) rfl ((fX7_find_ok _ _ _ _ _ _ q3 h4).deep (Nat.le_of_ble_eq_true rfl)) ?_
  refine go_n 2 (f := (17, [some (.ref 60), some (.int x1), some (.int x2), some (.int q3.1)], [.int q3.1], q3.2)) rfl ?_
  refine go_m (f := (41, [none, none, none, none], [.long (if q3.1 ≠ 0 then (if 0 ≤ (gl q3.2 60 38) then (gl q3.2 60 38) else 0) else 1)], q3.2)) ?_ (fun hJ8 => ?_)
  · generalize hz7 : (if q3.1 ≠ 0 then (if 0 ≤ (gl q3.2 60 38) then (gl q3.2 60 38) else 0) else 1) = z7 at hf ⊢
    try dsimp only at hf
    cases hf
    exact go_r rfl
  · by_cases h5 : q3.1 ≠ 0
    · refine go_it (t := 24) (f := 20) (L1 := [some (.ref 60), some (.int x1), some (.int x2), some (.int q3.1)]) (st1 := []) (σ1 := q3.2) rfl h5 ?_
      refine go_n 4 (f := (30, [some (.ref 60), some (.int x1), some (.int x2), some (.int q3.1)], [.int (lg_cmp (gl q3.2 60 38) 0)], q3.2)) rfl ?_
      by_cases h6 : 0 ≤ (gl q3.2 60 38)
      · refine go_it (t := 37) (f := 33) (L1 := [some (.ref 60), some (.int x1), some (.int x2), some (.int q3.1)]) (st1 := []) (σ1 := q3.2) rfl ((lgc_ge (gl q3.2 60 38) 0).mpr h6) ?_
        refine go_n 2 (f := (41, [some (.ref 60), some (.int x1), some (.int x2), some (.int q3.1)], [.long (gl q3.2 60 38)], q3.2)) rfl ?_
        refine go_e (L1 := [none, none, none, none]) rfl rfl ?_
        simp only [if_pos h5, if_pos h6] at hJ8
        first | exact hJ8 | (simp only [if_pos h5, if_pos h6]; exact hJ8)
      · refine go_if (t := 37) (f := 33) (L1 := [some (.ref 60), some (.int x1), some (.int x2), some (.int q3.1)]) (st1 := []) (σ1 := q3.2) rfl (fun q => h6 ((lgc_ge (gl q3.2 60 38) 0).mp q)) ?_
        refine go_n 2 (f := (41, [some (.ref 60), some (.int x1), some (.int x2), some (.int q3.1)], [.long 0], q3.2)) rfl ?_
        refine go_e (L1 := [none, none, none, none]) rfl rfl ?_
        simp only [if_pos h5, if_neg h6] at hJ8
        first | exact hJ8 | (simp only [if_pos h5, if_neg h6]; exact hJ8)
    · refine go_if (t := 24) (f := 20) (L1 := [some (.ref 60), some (.int x1), some (.int x2), some (.int q3.1)]) (st1 := []) (σ1 := q3.2) rfl h5 ?_
      refine go_n 2 (f := (41, [some (.ref 60), some (.int x1), some (.int x2), some (.int q3.1)], [.long 1], q3.2)) rfl ?_
      refine go_e (L1 := [none, none, none, none]) rfl rfl ?_
      simp only [if_neg h5] at hJ8
      first | exact hJ8 | (simp only [if_neg h5]; exact hJ8)
/-! OldWeatherModel.addMonth(II)V -/
def fX7_addMonth_J82 (x1 : Int32) (x2 : Int32) (x3 : Int32) (rec17 : (Int32 × Sg) → Option Sg) (σ : Sg) : Option Sg :=
  rec17 ((x3 + 1), σ)
set_option maxHeartbeats 1500000 in
theorem fX7_addMonth_J82_ok (x1 : Int32) (x2 : Int32) (x3 : Int32) (rec17 : (Int32 × Sg) → Option Sg) (σ : Sg) (hrec17 : ∀ (y3 : Int32) (τ : Sg) (r : Sg), rec17 (y3, τ) = some r → Go true 5 iX7_addMonth (17, [some (.ref 60), some (.int x1), some (.int x2), some (.int y3)], [], τ) (.inl none, r)) (r : Sg) (hf : fX7_addMonth_J82 x1 x2 x3 rec17 σ = some r) : Go true 5 iX7_addMonth (82, [some (.ref 60), some (.int x1), some (.int x2), some (.int x3)], [], σ) (.inl none, r) := by
  unfold fX7_addMonth_J82 at hf
  refine go_n 2 (f := (17, [some (.ref 60), some (.int x1), some (.int x2), some (.int (x3 + 1))], [], σ)) rfl ?_
  exact hrec17 _ _ _ hf
def fX7_addMonth_L17 (x1 : Int32) (x2 : Int32)  (rec17 : (Int32 × Sg) → Option Sg) (s : Int32 × Sg) : Option Sg :=
  match s with
  | (x3, σ) => if (gi σ 61 2) ≤ x3 then some σ else (fX7_isOf x3 x1 x2 σ).bind fun q2 => if q2.1 = 0 then fX7_addMonth_J82 x1 x2 x3 rec17 q2.2 else (fX7_get x3 5 (wi q2.2 60 80 ((gi q2.2 60 80) + 1))).bind fun q5 => (fX7_get x3 5 (wi (wi q2.2 60 80 ((gi q2.2 60 80) + 1)) 60 81 ((gi q2.2 60 81) + q5))).bind fun q7 => fX7_addMonth_J82 x1 x2 x3 rec17 (wi (wi (wi q2.2 60 80 ((gi q2.2 60 80) + 1)) 60 81 ((gi q2.2 60 81) + q5)) 60 82 ((gi q2.2 60 82) + (q7 * ((gi q2.2 60 80) + 1))))
set_option maxHeartbeats 1500000 in
theorem fX7_addMonth_L17_ok (x1 : Int32) (x2 : Int32)   : ∀ (n : Nat) (x3 : Int32) (σ : Sg) (r : Sg), lp (fX7_addMonth_L17 x1 x2 ) n (x3, σ) = some r → Go true 5 iX7_addMonth (17, [some (.ref 60), some (.int x1), some (.int x2), some (.int x3)], [], σ) (.inl none, r) := by
  intro n
  induction n with
  | zero => intro x3 σ r hf; cases hf
  | succ n ih =>
    intro x3 σ r hf
    have hf : fX7_addMonth_L17 x1 x2  (lp (fX7_addMonth_L17 x1 x2 ) n) (x3, σ) = some r := hf
    have hrec17 := ih
    generalize lp (fX7_addMonth_L17 x1 x2 ) n = rec17 at hf hrec17
    unfold fX7_addMonth_L17 at hf
    dsimp only at hf
    refine go_n 5 (f := (24, [some (.ref 60), some (.int x1), some (.int x2), some (.int x3)], [.int (gi σ 61 2), .int x3], σ)) rfl ?_
    by_cases h1 : (gi σ 61 2) ≤ x3
    · rw [if_pos h1] at hf
      refine go_it (t := 88) (f := 27) (L1 := [some (.ref 60), some (.int x1), some (.int x2), some (.int x3)]) (st1 := []) (σ1 := σ) rfl h1 ?_
      cases hf
      exact go_r rfl
    · rw [if_neg h1] at hf
      refine go_if (t := 88) (f := 27) (L1 := [some (.ref 60), some (.int x1), some (.int x2), some (.int x3)]) (st1 := []) (σ1 := σ) rfl h1 ?_
      refine go_n 4 (f := (31, [some (.ref 60), some (.int x1), some (.int x2), some (.int x3)], [.int x2, .int x1, .int x3, .ref 60], σ)) rfl ?_
      obtain ⟨q2, h3, hf⟩ := bnd hf
      refine go_c (mid := 12174) (args := [.ref 60, .int x3, .int x1, .int x2]) (pc := 34) (L := [some (.ref 60), some (.int x1), some (.int x2), some (.int x3)]) (st := []) (σ := σ) rfl ((fX7_isOf_ok _ _ _ _ q2 h3).deep (Nat.le_of_ble_eq_true rfl)) ?_
      by_cases h4 : q2.1 = 0
      · rw [if_pos h4] at hf
        refine go_it (t := 82) (f := 37) (L1 := [some (.ref 60), some (.int x1), some (.int x2), some (.int x3)]) (st1 := []) (σ1 := q2.2) rfl h4 ?_
        exact fX7_addMonth_J82_ok _ _ _ _ _ hrec17 _ hf
      · rw [if_neg h4] at hf
        refine go_if (t := 82) (f := 37) (L1 := [some (.ref 60), some (.int x1), some (.int x2), some (.int x3)]) (st1 := []) (σ1 := q2.2) rfl h4 ?_
        refine go_n 10 (f := (53, [some (.ref 60), some (.int x1), some (.int x2), some (.int x3)], [.ref 60, .int (gi q2.2 60 81), .ref 60], (wi q2.2 60 80 ((gi q2.2 60 80) + 1)))) rfl ?_
        refine go_n 2 (f := (55, [some (.ref 60), some (.int x1), some (.int x2), some (.int x3)], [.int 5, .int x3, .ref 60, .int (gi q2.2 60 81), .ref 60], (wi q2.2 60 80 ((gi q2.2 60 80) + 1)))) rfl ?_
        obtain ⟨q5, h6, hf⟩ := bnd hf
        refine go_c (mid := 12067) (args := [.ref 60, .int x3, .int 5]) (pc := 58) (L := [some (.ref 60), some (.int x1), some (.int x2), some (.int x3)]) (st := [.int (gi q2.2 60 81), .ref 60]) (σ := (wi q2.2 60 80 ((gi q2.2 60 80) + 1))) rfl ((fX7_get_ok _ _ _ q5 h6).deep (Nat.le_of_ble_eq_true rfl)) ?_
        refine go_n 8 (f := (70, [some (.ref 60), some (.int x1), some (.int x2), some (.int x3)], [.int 5, .int x3, .ref 60, .int (gi q2.2 60 82), .ref 60], (wi (wi q2.2 60 80 ((gi q2.2 60 80) + 1)) 60 81 ((gi q2.2 60 81) + q5)))) rfl ?_
        obtain ⟨q7, h8, hf⟩ := bnd hf
        refine go_c (mid := 12067) (args := [.ref 60, .int x3, .int 5]) (pc := 73) (L := [some (.ref 60), some (.int x1), some (.int x2), some (.int x3)]) (st := [.int (gi q2.2 60 82), .ref 60]) (σ := (wi (wi q2.2 60 80 ((gi q2.2 60 80) + 1)) 60 81 ((gi q2.2 60 81) + q5))) rfl ((fX7_get_ok _ _ _ q7 h8).deep (Nat.le_of_ble_eq_true rfl)) ?_
        refine go_n 5 (f := (82, [some (.ref 60), some (.int x1), some (.int x2), some (.int x3)], [], (wi (wi (wi q2.2 60 80 ((gi q2.2 60 80) + 1)) 60 81 ((gi q2.2 60 81) + q5)) 60 82 ((gi q2.2 60 82) + (q7 * ((gi q2.2 60 80) + 1)))))) rfl ?_
        exact fX7_addMonth_J82_ok _ _ _ _ _ hrec17 _ hf
def fX7_addMonth (x1 : Int32) (x2 : Int32) (σ : Sg) : Option Sg :=
  lp (fX7_addMonth_L17 x1 x2 ) N0 (0, (wi (wi (wi σ 60 80 0) 60 81 0) 60 82 0))
set_option maxHeartbeats 1500000 in
theorem fX7_addMonth_ok (x1 : Int32) (x2 : Int32) (σ : Sg) (r : Sg) (hf : fX7_addMonth x1 x2 σ = some r) : Cl true 5 12173 [.ref 60, .int x1, .int x2] σ (.inl none, r) := by
  refine ⟨iX7_addMonth, rfl, Nat.le_of_ble_eq_true rfl, Nat.le_of_ble_eq_true rfl, ?_⟩
  show Go true 5 iX7_addMonth (0, [some (.ref 60), some (.int x1), some (.int x2), none], [], σ) (.inl none, r)
  unfold fX7_addMonth at hf
  refine go_n 6 (f := (10, [some (.ref 60), some (.int x1), some (.int x2), none], [], (wi (wi σ 60 80 0) 60 81 0))) rfl ?_
  refine go_n 5 (f := (17, [some (.ref 60), some (.int x1), some (.int x2), some (.int 0)], [], (wi (wi (wi σ 60 80 0) 60 81 0) 60 82 0))) rfl ?_
  exact fX7_addMonth_L17_ok _ _   N0 _ _ _ hf
/-! OldWeatherModel.found(II)I -/
def fX7_found_J154 (x1 : Int32) (x2 : Int32) (x4 : Int32) (x5 : Int32) (x6 : Int32) (x7 : Int32) (rec112 : (Int32 × Int32 × Sg) → Option (Int32 × Sg)) (σ : Sg) : Option (Int32 × Sg) :=
  rec112 (x6, (x7 + 1), σ)
set_option maxHeartbeats 1500000 in
theorem fX7_found_J154_ok (x1 : Int32) (x2 : Int32) (x4 : Int32) (x5 : Int32) (x6 : Int32) (x7 : Int32) (rec112 : (Int32 × Int32 × Sg) → Option (Int32 × Sg)) (σ : Sg) (hrec112 : ∀ (y6 : Int32) (y7 : Int32) (τ : Sg) (r : (Int32 × Sg)), rec112 (y6, y7, τ) = some r → Go true 6 iX7_found (112, [some (.ref 60), some (.int x1), some (.int x2), none, some (.int x4), some (.int x5), some (.int y6), some (.int y7)], [], τ) (.inl (some (.int (r).1)), (r).2)) (r : (Int32 × Sg)) (hf : fX7_found_J154 x1 x2 x4 x5 x6 x7 rec112 σ = some r) : Go true 6 iX7_found (154, [some (.ref 60), some (.int x1), some (.int x2), none, some (.int x4), some (.int x5), some (.int x6), some (.int x7)], [], σ) (.inl (some (.int (r).1)), (r).2) := by
  unfold fX7_found_J154 at hf
  refine go_n 2 (f := (112, [some (.ref 60), some (.int x1), some (.int x2), none, some (.int x4), some (.int x5), some (.int x6), some (.int (x7 + 1))], [], σ)) rfl ?_
  exact hrec112 _ _ _ _ hf
def fX7_found_L112 (x1 : Int32) (x2 : Int32) (x4 : Int32) (x5 : Int32)  (rec112 : (Int32 × Int32 × Sg) → Option (Int32 × Sg)) (s : Int32 × Int32 × Sg) : Option (Int32 × Sg) :=
  match s with
  | (x6, x7, σ) => if (gi σ 61 2) ≤ x7 then some ((-2), σ) else (fX7_isOf x7 x1 x2 σ).bind fun q18 => if q18.1 = 0 then fX7_found_J154 x1 x2 x4 x5 x6 x7 rec112 q18.2 else if (x4.toInt64 * (x6 + 1).toInt64) ≠ x5.toInt64 then fX7_found_J154 x1 x2 x4 x5 (x6 + 1) x7 rec112 q18.2 else some (x7, q18.2)
set_option maxHeartbeats 1500000 in
theorem fX7_found_L112_ok (x1 : Int32) (x2 : Int32) (x4 : Int32) (x5 : Int32)   : ∀ (n : Nat) (x6 : Int32) (x7 : Int32) (σ : Sg) (r : (Int32 × Sg)), lp (fX7_found_L112 x1 x2 x4 x5 ) n (x6, x7, σ) = some r → Go true 6 iX7_found (112, [some (.ref 60), some (.int x1), some (.int x2), none, some (.int x4), some (.int x5), some (.int x6), some (.int x7)], [], σ) (.inl (some (.int (r).1)), (r).2) := by
  intro n
  induction n with
  | zero => intro x6 x7 σ r hf; cases hf
  | succ n ih =>
    intro x6 x7 σ r hf
    have hf : fX7_found_L112 x1 x2 x4 x5  (lp (fX7_found_L112 x1 x2 x4 x5 ) n) (x6, x7, σ) = some r := hf
    have hrec112 := ih
    generalize lp (fX7_found_L112 x1 x2 x4 x5 ) n = rec112 at hf hrec112
    unfold fX7_found_L112 at hf
    dsimp only at hf
    refine go_n 5 (f := (120, [some (.ref 60), some (.int x1), some (.int x2), none, some (.int x4), some (.int x5), some (.int x6), some (.int x7)], [.int (gi σ 61 2), .int x7], σ)) rfl ?_
    by_cases h17 : (gi σ 61 2) ≤ x7
    · rw [if_pos h17] at hf
      refine go_it (t := 160) (f := 123) (L1 := [some (.ref 60), some (.int x1), some (.int x2), none, some (.int x4), some (.int x5), some (.int x6), some (.int x7)]) (st1 := []) (σ1 := σ) rfl h17 ?_
      refine go_n 1 (f := (162, [some (.ref 60), some (.int x1), some (.int x2), none, some (.int x4), some (.int x5), some (.int x6), some (.int x7)], [.int (-2)], σ)) rfl ?_
      cases hf
      exact go_r rfl
    · rw [if_neg h17] at hf
      refine go_if (t := 160) (f := 123) (L1 := [some (.ref 60), some (.int x1), some (.int x2), none, some (.int x4), some (.int x5), some (.int x6), some (.int x7)]) (st1 := []) (σ1 := σ) rfl h17 ?_
      refine go_n 4 (f := (128, [some (.ref 60), some (.int x1), some (.int x2), none, some (.int x4), some (.int x5), some (.int x6), some (.int x7)], [.int x2, .int x1, .int x7, .ref 60], σ)) rfl ?_
      obtain ⟨q18, h19, hf⟩ := bnd hf
      refine go_c (mid := 12174) (args := [.ref 60, .int x7, .int x1, .int x2]) (pc := 131) (L := [some (.ref 60), some (.int x1), some (.int x2), none, some (.int x4), some (.int x5), some (.int x6), some (.int x7)]) (st := []) (σ := σ) rfl ((fX7_isOf_ok _ _ _ _ q18 h19).deep (Nat.le_of_ble_eq_true rfl)) ?_
      by_cases h20 : q18.1 = 0
      · rw [if_pos h20] at hf
        refine go_it (t := 154) (f := 134) (L1 := [some (.ref 60), some (.int x1), some (.int x2), none, some (.int x4), some (.int x5), some (.int x6), some (.int x7)]) (st1 := []) (σ1 := q18.2) rfl h20 ?_
        exact fX7_found_J154_ok _ _ _ _ _ _ _ _ hrec112 _ hf
      · rw [if_neg h20] at hf
        refine go_if (t := 154) (f := 134) (L1 := [some (.ref 60), some (.int x1), some (.int x2), none, some (.int x4), some (.int x5), some (.int x6), some (.int x7)]) (st1 := []) (σ1 := q18.2) rfl h20 ?_
        refine go_n 9 (f := (148, [some (.ref 60), some (.int x1), some (.int x2), none, some (.int x4), some (.int x5), some (.int (x6 + 1)), some (.int x7)], [.int (lg_cmp (x4.toInt64 * (x6 + 1).toInt64) x5.toInt64)], q18.2)) rfl ?_
        by_cases h21 : (x4.toInt64 * (x6 + 1).toInt64) ≠ x5.toInt64
        · rw [if_pos h21] at hf
          refine go_it (t := 154) (f := 151) (L1 := [some (.ref 60), some (.int x1), some (.int x2), none, some (.int x4), some (.int x5), some (.int (x6 + 1)), some (.int x7)]) (st1 := []) (σ1 := q18.2) rfl ((lgc_ne (x4.toInt64 * (x6 + 1).toInt64) x5.toInt64).mpr h21) ?_
          exact fX7_found_J154_ok _ _ _ _ _ _ _ _ hrec112 _ hf
        · rw [if_neg h21] at hf
          refine go_if (t := 154) (f := 151) (L1 := [some (.ref 60), some (.int x1), some (.int x2), none, some (.int x4), some (.int x5), some (.int (x6 + 1)), some (.int x7)]) (st1 := []) (σ1 := q18.2) rfl (fun q => h21 ((lgc_ne (x4.toInt64 * (x6 + 1).toInt64) x5.toInt64).mp q)) ?_
          refine go_n 1 (f := (153, [some (.ref 60), some (.int x1), some (.int x2), none, some (.int x4), some (.int x5), some (.int (x6 + 1)), some (.int x7)], [.int x7], q18.2)) rfl ?_
          cases hf
          exact go_r rfl
def fX7_found (x1 : Int32) (x2 : Int32) (σ : Sg) : Option (Int32 × Sg) :=
  (fX7_isMonth x1 x2).bind fun q1 => if q1 = 0 then some ((-3), (wi σ 60 0 0)) else (fX7_sealAt x1 x2).bind fun q4 => if inb q4 39698 then if (gi σ 61 q4.toNatClampNeg) ≠ 0 then (fX7_sealAt x1 x2).bind fun q8 => (fX7_addMonth x1 x2 (wi σ 60 0 0)).bind fun q10 => if inb (q8 + 1) 39698 then if (gi q10 60 80) = (gi q10 61 (q8 + 1).toNatClampNeg) then if inb (q8 + 2) 39698 then if inb (q8 + 3) 39698 then if ((gi q10 60 81) - (gi q10 61 (q8 + 2).toNatClampNeg)) ≠ 0 then lp (fX7_found_L112 x1 x2 ((gi q10 60 81) - (gi q10 61 (q8 + 2).toNatClampNeg)) ((gi q10 60 82) - (gi q10 61 (q8 + 3).toNatClampNeg)) ) N0 (0, 0, q10) else ((fun (z23 : Int32) => some (z23, q10)) ((if ((gi q10 60 82) - (gi q10 61 (q8 + 3).toNatClampNeg)) ≠ 0 then (-2) else (-1)) : Int32)) else none else none else some ((-2), q10) else none else some ((-3), (wi σ 60 0 0)) else none
set_option maxHeartbeats 1500000 in
theorem fX7_found_ok (x1 : Int32) (x2 : Int32) (σ : Sg) (r : (Int32 × Sg)) (hf : fX7_found x1 x2 σ = some r) : Cl true 6 12177 [.ref 60, .int x1, .int x2] σ (.inl (some (.int (r).1)), (r).2) := by
  refine ⟨iX7_found, rfl, Nat.le_of_ble_eq_true rfl, Nat.le_of_ble_eq_true rfl, ?_⟩
  show Go true 6 iX7_found (0, [some (.ref 60), some (.int x1), some (.int x2), none, none, none, none, none], [], σ) (.inl (some (.int (r).1)), (r).2)
  unfold fX7_found at hf
  refine go_n 5 (f := (7, [some (.ref 60), some (.int x1), some (.int x2), none, none, none, none, none], [.int x2, .int x1], (wi σ 60 0 0))) rfl ?_
  obtain ⟨q1, h2, hf⟩ := bnd hf
  refine go_c (mid := 12172) (args := [.int x1, .int x2]) (pc := 10) (L := [some (.ref 60), some (.int x1), some (.int x2), none, none, none, none, none]) (st := []) (σ := (wi σ 60 0 0)) rfl ((fX7_isMonth_ok _ _ _ q1 h2).deep (Nat.le_of_ble_eq_true rfl)) ?_
  by_cases h3 : q1 = 0
  · rw [if_pos h3] at hf
    refine go_it (t := 26) (f := 13) (L1 := [some (.ref 60), some (.int x1), some (.int x2), none, none, none, none, none]) (st1 := []) (σ1 := (wi σ 60 0 0)) rfl h3 ?_
    refine go_e (L1 := [none, none, none, none, none, none, none, none]) rfl rfl ?_
    refine go_n 1 (f := (28, [none, none, none, none, none, none, none, none], [.int (-3)], (wi σ 60 0 0))) rfl ?_
    cases hf
    exact go_r rfl
  · rw [if_neg h3] at hf
    refine go_if (t := 26) (f := 13) (L1 := [some (.ref 60), some (.int x1), some (.int x2), none, none, none, none, none]) (st1 := []) (σ1 := (wi σ 60 0 0)) rfl h3 ?_
    refine go_n 4 (f := (19, [some (.ref 60), some (.int x1), some (.int x2), none, none, none, none, none], [.int x2, .int x1, .ref 61], (wi σ 60 0 0))) rfl ?_
    obtain ⟨q4, h5, hf⟩ := bnd hf
    refine go_c (mid := 12175) (args := [.int x1, .int x2]) (pc := 22) (L := [some (.ref 60), some (.int x1), some (.int x2), none, none, none, none, none]) (st := [.ref 61]) (σ := (wi σ 60 0 0)) rfl ((fX7_sealAt_ok _ _ _ q4 h5).deep (Nat.le_of_ble_eq_true rfl)) ?_
    obtain ⟨h6, hf⟩ := grd hf
    refine go_iald rfl rfl rfl h6 ?_
    by_cases h7 : (gi σ 61 q4.toNatClampNeg) ≠ 0
    · rw [if_pos h7] at hf
      refine go_it (t := 29) (f := 26) (L1 := [some (.ref 60), some (.int x1), some (.int x2), none, none, none, none, none]) (st1 := []) (σ1 := (wi σ 60 0 0)) rfl h7 ?_
      refine go_n 2 (f := (31, [some (.ref 60), some (.int x1), some (.int x2), none, none, none, none, none], [.int x2, .int x1], (wi σ 60 0 0))) rfl ?_
      obtain ⟨q8, h9, hf⟩ := bnd hf
      refine go_c (mid := 12175) (args := [.int x1, .int x2]) (pc := 34) (L := [some (.ref 60), some (.int x1), some (.int x2), none, none, none, none, none]) (st := []) (σ := (wi σ 60 0 0)) rfl ((fX7_sealAt_ok _ _ _ q8 h9).deep (Nat.le_of_ble_eq_true rfl)) ?_
      refine go_n 4 (f := (38, [some (.ref 60), some (.int x1), some (.int x2), some (.int q8), none, none, none, none], [.int x2, .int x1, .ref 60], (wi σ 60 0 0))) rfl ?_
      obtain ⟨q10, h11, hf⟩ := bnd hf
      refine go_c (mid := 12173) (args := [.ref 60, .int x1, .int x2]) (pc := 41) (L := [some (.ref 60), some (.int x1), some (.int x2), some (.int q8), none, none, none, none]) (st := []) (σ := (wi σ 60 0 0)) rfl ((fX7_addMonth_ok _ _ _ q10 h11).deep (Nat.le_of_ble_eq_true rfl)) ?_
      refine go_n 7 (f := (52, [some (.ref 60), some (.int x1), some (.int x2), some (.int q8), none, none, none, none], [.int (q8 + 1), .ref 61, .int (gi q10 60 80)], q10)) rfl ?_
      obtain ⟨h12, hf⟩ := grd hf
      refine go_iald rfl rfl rfl h12 ?_
      by_cases h13 : (gi q10 60 80) = (gi q10 61 (q8 + 1).toNatClampNeg)
      · rw [if_pos h13] at hf
        refine go_it (t := 59) (f := 56) (L1 := [some (.ref 60), some (.int x1), some (.int x2), some (.int q8), none, none, none, none]) (st1 := []) (σ1 := q10) rfl h13 ?_
        refine go_n 7 (f := (70, [some (.ref 60), some (.int x1), some (.int x2), some (.int q8), none, none, none, none], [.int (q8 + 2), .ref 61, .int (gi q10 60 81)], q10)) rfl ?_
        obtain ⟨h14, hf⟩ := grd hf
        refine go_iald rfl rfl rfl h14 ?_
        refine go_n 9 (f := (85, [some (.ref 60), some (.int x1), some (.int x2), some (.int q8), some (.int ((gi q10 60 81) - (gi q10 61 (q8 + 2).toNatClampNeg))), none, none, none], [.int (q8 + 3), .ref 61, .int (gi q10 60 82)], q10)) rfl ?_
        obtain ⟨h15, hf⟩ := grd hf
        refine go_iald rfl rfl rfl h15 ?_
        refine go_n 3 (f := (91, [some (.ref 60), some (.int x1), some (.int x2), some (.int q8), some (.int ((gi q10 60 81) - (gi q10 61 (q8 + 2).toNatClampNeg))), some (.int ((gi q10 60 82) - (gi q10 61 (q8 + 3).toNatClampNeg))), none, none], [.int ((gi q10 60 81) - (gi q10 61 (q8 + 2).toNatClampNeg))], q10)) rfl ?_
        by_cases h16 : ((gi q10 60 81) - (gi q10 61 (q8 + 2).toNatClampNeg)) ≠ 0
        · rw [if_pos h16] at hf
          refine go_it (t := 106) (f := 94) (L1 := [some (.ref 60), some (.int x1), some (.int x2), some (.int q8), some (.int ((gi q10 60 81) - (gi q10 61 (q8 + 2).toNatClampNeg))), some (.int ((gi q10 60 82) - (gi q10 61 (q8 + 3).toNatClampNeg))), none, none]) (st1 := []) (σ1 := q10) rfl h16 ?_
          refine go_n 4 (f := (112, [some (.ref 60), some (.int x1), some (.int x2), some (.int q8), some (.int ((gi q10 60 81) - (gi q10 61 (q8 + 2).toNatClampNeg))), some (.int ((gi q10 60 82) - (gi q10 61 (q8 + 3).toNatClampNeg))), some (.int 0), some (.int 0)], [], q10)) rfl ?_
          refine go_e (L1 := [some (.ref 60), some (.int x1), some (.int x2), none, some (.int ((gi q10 60 81) - (gi q10 61 (q8 + 2).toNatClampNeg))), some (.int ((gi q10 60 82) - (gi q10 61 (q8 + 3).toNatClampNeg))), some (.int 0), some (.int 0)]) rfl rfl ?_
          exact fX7_found_L112_ok _ _ _ _   N0 _ _ _ _ hf
        · rw [if_neg h16] at hf
          refine go_if (t := 106) (f := 94) (L1 := [some (.ref 60), some (.int x1), some (.int x2), some (.int q8), some (.int ((gi q10 60 81) - (gi q10 61 (q8 + 2).toNatClampNeg))), some (.int ((gi q10 60 82) - (gi q10 61 (q8 + 3).toNatClampNeg))), none, none]) (st1 := []) (σ1 := q10) rfl h16 ?_
          refine go_n 1 (f := (96, [some (.ref 60), some (.int x1), some (.int x2), some (.int q8), some (.int ((gi q10 60 81) - (gi q10 61 (q8 + 2).toNatClampNeg))), some (.int ((gi q10 60 82) - (gi q10 61 (q8 + 3).toNatClampNeg))), none, none], [.int ((gi q10 60 82) - (gi q10 61 (q8 + 3).toNatClampNeg))], q10)) rfl ?_
          refine go_m (f := (105, [none, none, none, none, none, none, none, none], [.int ((if ((gi q10 60 82) - (gi q10 61 (q8 + 3).toNatClampNeg)) ≠ 0 then (-2) else (-1)) : Int32)], q10)) ?_ (fun hJ24 => ?_)
          · generalize hz23 : ((if ((gi q10 60 82) - (gi q10 61 (q8 + 3).toNatClampNeg)) ≠ 0 then (-2) else (-1)) : Int32) = z23 at hf ⊢
            try dsimp only at hf
            cases hf
            exact go_r rfl
          · by_cases h22 : ((gi q10 60 82) - (gi q10 61 (q8 + 3).toNatClampNeg)) ≠ 0
            · refine go_it (t := 103) (f := 99) (L1 := [some (.ref 60), some (.int x1), some (.int x2), some (.int q8), some (.int ((gi q10 60 81) - (gi q10 61 (q8 + 2).toNatClampNeg))), some (.int ((gi q10 60 82) - (gi q10 61 (q8 + 3).toNatClampNeg))), none, none]) (st1 := []) (σ1 := q10) rfl h22 ?_
              refine go_n 1 (f := (105, [some (.ref 60), some (.int x1), some (.int x2), some (.int q8), some (.int ((gi q10 60 81) - (gi q10 61 (q8 + 2).toNatClampNeg))), some (.int ((gi q10 60 82) - (gi q10 61 (q8 + 3).toNatClampNeg))), none, none], [.int (-2)], q10)) rfl ?_
              refine go_e (L1 := [none, none, none, none, none, none, none, none]) rfl rfl ?_
              simp only [if_pos h22] at hJ24
              first | exact hJ24 | (simp only [if_pos h22]; exact hJ24)
            · refine go_if (t := 103) (f := 99) (L1 := [some (.ref 60), some (.int x1), some (.int x2), some (.int q8), some (.int ((gi q10 60 81) - (gi q10 61 (q8 + 2).toNatClampNeg))), some (.int ((gi q10 60 82) - (gi q10 61 (q8 + 3).toNatClampNeg))), none, none]) (st1 := []) (σ1 := q10) rfl h22 ?_
              refine go_n 2 (f := (105, [some (.ref 60), some (.int x1), some (.int x2), some (.int q8), some (.int ((gi q10 60 81) - (gi q10 61 (q8 + 2).toNatClampNeg))), some (.int ((gi q10 60 82) - (gi q10 61 (q8 + 3).toNatClampNeg))), none, none], [.int (-1)], q10)) rfl ?_
              refine go_e (L1 := [none, none, none, none, none, none, none, none]) rfl rfl ?_
              simp only [if_neg h22] at hJ24
              first | exact hJ24 | (simp only [if_neg h22]; exact hJ24)
      · rw [if_neg h13] at hf
        refine go_if (t := 59) (f := 56) (L1 := [some (.ref 60), some (.int x1), some (.int x2), some (.int q8), none, none, none, none]) (st1 := []) (σ1 := q10) rfl h13 ?_
        refine go_n 1 (f := (58, [some (.ref 60), some (.int x1), some (.int x2), some (.int q8), none, none, none, none], [.int (-2)], q10)) rfl ?_
        cases hf
        exact go_r rfl
    · rw [if_neg h7] at hf
      refine go_if (t := 29) (f := 26) (L1 := [some (.ref 60), some (.int x1), some (.int x2), none, none, none, none, none]) (st1 := []) (σ1 := (wi σ 60 0 0)) rfl h7 ?_
      refine go_e (L1 := [none, none, none, none, none, none, none, none]) rfl rfl ?_
      refine go_n 1 (f := (28, [none, none, none, none, none, none, none, none], [.int (-3)], (wi σ 60 0 0))) rfl ?_
      cases hf
      exact go_r rfl
/-! OldWeatherModel.readExpression(Z)V -/
def fX7_readExpression_J76   (σ : Sg) : Option Sg :=
  (fX7_settle 1 σ).bind fun q4 => some q4
set_option maxHeartbeats 1500000 in
theorem fX7_readExpression_J76_ok   (σ : Sg)  (r : Sg) (hf : fX7_readExpression_J76   σ = some r) : Go true 6 iX7_readExpression (76, [some (.ref 60), none, none], [], σ) (.inl none, r) := by
  unfold fX7_readExpression_J76 at hf
  refine go_n 2 (f := (78, [some (.ref 60), none, none], [.int 1, .ref 60], σ)) rfl ?_
  obtain ⟨q4, h5, hf⟩ := bnd hf
  refine go_c (mid := 12099) (args := [.ref 60, .int 1]) (pc := 81) (L := [some (.ref 60), none, none]) (st := []) (σ := σ) rfl ((fX7_settle_ok _ _ q4 h5).deep (Nat.le_of_ble_eq_true rfl)) ?_
  cases hf
  exact go_r rfl
def fX7_readExpression_J72 (x1 : Int32) (s0 : Int32) (rec20 : (Int32 × Sg) → Option Sg) (σ : Sg) : Option Sg :=
  rec20 (s0, σ)
set_option maxHeartbeats 1500000 in
theorem fX7_readExpression_J72_ok (x1 : Int32) (s0 : Int32) (rec20 : (Int32 × Sg) → Option Sg) (σ : Sg) (hrec20 : ∀ (y2 : Int32) (τ : Sg) (r : Sg), rec20 (y2, τ) = some r → Go true 6 iX7_readExpression (20, [some (.ref 60), some (.int x1), some (.int y2)], [], τ) (.inl none, r)) (r : Sg) (hf : fX7_readExpression_J72 x1 s0 rec20 σ = some r) : Go true 6 iX7_readExpression (72, [some (.ref 60), some (.int x1), none], [.int s0], σ) (.inl none, r) := by
  unfold fX7_readExpression_J72 at hf
  refine go_n 2 (f := (20, [some (.ref 60), some (.int x1), some (.int s0)], [], σ)) rfl ?_
  exact hrec20 _ _ _ hf
def fX7_readExpression_L20 (x1 : Int32)  (rec20 : (Int32 × Sg) → Option Sg) (s : Int32 × Sg) : Option Sg :=
  match s with
  | (x2, σ) => if (gi σ 60 20) ≠ 0 then fX7_readExpression_J76   σ else if x2 = 4 then fX7_readExpression_J76   σ else if x2 ≠ 0 then if x2 ≠ 1 then if x2 ≠ 3 then (fX7_behindTest  σ).bind fun q10 => fX7_readExpression_J72 x1 q10.1 rec20 q10.2 else (fX7_behindSum x1 σ).bind fun q12 => fX7_readExpression_J72 x1 q12.1 rec20 q12.2 else (fX7_readPart  σ).bind fun q14 => fX7_readExpression_J72 x1 q14.1 rec20 q14.2 else (fX7_readPlain  σ).bind fun q16 => fX7_readExpression_J72 x1 q16.1 rec20 q16.2
set_option maxHeartbeats 1500000 in
theorem fX7_readExpression_L20_ok (x1 : Int32)   : ∀ (n : Nat) (x2 : Int32) (σ : Sg) (r : Sg), lp (fX7_readExpression_L20 x1 ) n (x2, σ) = some r → Go true 6 iX7_readExpression (20, [some (.ref 60), some (.int x1), some (.int x2)], [], σ) (.inl none, r) := by
  intro n
  induction n with
  | zero => intro x2 σ r hf; cases hf
  | succ n ih =>
    intro x2 σ r hf
    have hf : fX7_readExpression_L20 x1  (lp (fX7_readExpression_L20 x1 ) n) (x2, σ) = some r := hf
    have hrec20 := ih
    generalize lp (fX7_readExpression_L20 x1 ) n = rec20 at hf hrec20
    unfold fX7_readExpression_L20 at hf
    dsimp only at hf
    refine go_n 2 (f := (24, [some (.ref 60), some (.int x1), some (.int x2)], [.int (gi σ 60 20)], σ)) rfl ?_
    by_cases h3 : (gi σ 60 20) ≠ 0
    · rw [if_pos h3] at hf
      refine go_it (t := 76) (f := 27) (L1 := [some (.ref 60), some (.int x1), some (.int x2)]) (st1 := []) (σ1 := σ) rfl h3 ?_
      refine go_e (L1 := [some (.ref 60), none, none]) rfl rfl ?_
      exact fX7_readExpression_J76_ok   _  _ hf
    · rw [if_neg h3] at hf
      refine go_if (t := 76) (f := 27) (L1 := [some (.ref 60), some (.int x1), some (.int x2)]) (st1 := []) (σ1 := σ) rfl h3 ?_
      refine go_n 2 (f := (29, [some (.ref 60), some (.int x1), some (.int x2)], [.int 4, .int x2], σ)) rfl ?_
      by_cases h6 : x2 = 4
      · rw [if_pos h6] at hf
        refine go_it (t := 76) (f := 32) (L1 := [some (.ref 60), some (.int x1), some (.int x2)]) (st1 := []) (σ1 := σ) rfl h6 ?_
        refine go_e (L1 := [some (.ref 60), none, none]) rfl rfl ?_
        exact fX7_readExpression_J76_ok   _  _ hf
      · rw [if_neg h6] at hf
        refine go_if (t := 76) (f := 32) (L1 := [some (.ref 60), some (.int x1), some (.int x2)]) (st1 := []) (σ1 := σ) rfl h6 ?_
        refine go_n 1 (f := (33, [some (.ref 60), some (.int x1), some (.int x2)], [.int x2], σ)) rfl ?_
        by_cases h7 : x2 ≠ 0
        · rw [if_pos h7] at hf
          refine go_it (t := 43) (f := 36) (L1 := [some (.ref 60), some (.int x1), some (.int x2)]) (st1 := []) (σ1 := σ) rfl h7 ?_
          refine go_n 2 (f := (45, [some (.ref 60), some (.int x1), some (.int x2)], [.int 1, .int x2], σ)) rfl ?_
          by_cases h8 : x2 ≠ 1
          · rw [if_pos h8] at hf
            refine go_it (t := 55) (f := 48) (L1 := [some (.ref 60), some (.int x1), some (.int x2)]) (st1 := []) (σ1 := σ) rfl h8 ?_
            refine go_n 2 (f := (57, [some (.ref 60), some (.int x1), some (.int x2)], [.int 3, .int x2], σ)) rfl ?_
            by_cases h9 : x2 ≠ 3
            · rw [if_pos h9] at hf
              refine go_it (t := 68) (f := 60) (L1 := [some (.ref 60), some (.int x1), some (.int x2)]) (st1 := []) (σ1 := σ) rfl h9 ?_
              refine go_n 1 (f := (69, [some (.ref 60), some (.int x1), some (.int x2)], [.ref 60], σ)) rfl ?_
              obtain ⟨q10, h11, hf⟩ := bnd hf
              refine go_c (mid := 12104) (args := [.ref 60]) (pc := 72) (L := [some (.ref 60), some (.int x1), some (.int x2)]) (st := []) (σ := σ) rfl ((fX7_behindTest_ok _ q10 h11).deep (Nat.le_of_ble_eq_true rfl)) ?_
              refine go_e (L1 := [some (.ref 60), some (.int x1), none]) rfl rfl ?_
              exact fX7_readExpression_J72_ok _ _ _ _ hrec20 _ hf
            · rw [if_neg h9] at hf
              refine go_if (t := 68) (f := 60) (L1 := [some (.ref 60), some (.int x1), some (.int x2)]) (st1 := []) (σ1 := σ) rfl h9 ?_
              refine go_n 2 (f := (62, [some (.ref 60), some (.int x1), some (.int x2)], [.int x1, .ref 60], σ)) rfl ?_
              obtain ⟨q12, h13, hf⟩ := bnd hf
              refine go_c (mid := 12101) (args := [.ref 60, .int x1]) (pc := 65) (L := [some (.ref 60), some (.int x1), some (.int x2)]) (st := []) (σ := σ) rfl ((fX7_behindSum_ok _ _ q12 h13).deep (Nat.le_of_ble_eq_true rfl)) ?_
              refine go_n 1 (f := (72, [some (.ref 60), some (.int x1), some (.int x2)], [.int q12.1], q12.2)) rfl ?_
              refine go_e (L1 := [some (.ref 60), some (.int x1), none]) rfl rfl ?_
              exact fX7_readExpression_J72_ok _ _ _ _ hrec20 _ hf
          · rw [if_neg h8] at hf
            refine go_if (t := 55) (f := 48) (L1 := [some (.ref 60), some (.int x1), some (.int x2)]) (st1 := []) (σ1 := σ) rfl h8 ?_
            refine go_n 1 (f := (49, [some (.ref 60), some (.int x1), some (.int x2)], [.ref 60], σ)) rfl ?_
            obtain ⟨q14, h15, hf⟩ := bnd hf
            refine go_c (mid := 12096) (args := [.ref 60]) (pc := 52) (L := [some (.ref 60), some (.int x1), some (.int x2)]) (st := []) (σ := σ) rfl ((fX7_readPart_ok _ q14 h15).deep (Nat.le_of_ble_eq_true rfl)) ?_
            refine go_n 1 (f := (72, [some (.ref 60), some (.int x1), some (.int x2)], [.int q14.1], q14.2)) rfl ?_
            refine go_e (L1 := [some (.ref 60), some (.int x1), none]) rfl rfl ?_
            exact fX7_readExpression_J72_ok _ _ _ _ hrec20 _ hf
        · rw [if_neg h7] at hf
          refine go_if (t := 43) (f := 36) (L1 := [some (.ref 60), some (.int x1), some (.int x2)]) (st1 := []) (σ1 := σ) rfl h7 ?_
          refine go_n 1 (f := (37, [some (.ref 60), some (.int x1), some (.int x2)], [.ref 60], σ)) rfl ?_
          obtain ⟨q16, h17, hf⟩ := bnd hf
          refine go_c (mid := 12092) (args := [.ref 60]) (pc := 40) (L := [some (.ref 60), some (.int x1), some (.int x2)]) (st := []) (σ := σ) rfl ((fX7_readPlain_ok _ q16 h17).deep (Nat.le_of_ble_eq_true rfl)) ?_
          refine go_n 1 (f := (72, [some (.ref 60), some (.int x1), some (.int x2)], [.int q16.1], q16.2)) rfl ?_
          refine go_e (L1 := [some (.ref 60), some (.int x1), none]) rfl rfl ?_
          exact fX7_readExpression_J72_ok _ _ _ _ hrec20 _ hf
def fX7_readExpression (x1 : Int32) (σ : Sg) : Option Sg :=
  ((fun (z2 : Int32) => lp (fX7_readExpression_L20 x1 ) N0 (z2, (wi (wi σ 60 29 0) 60 30 0))) ((if x1 = 0 then 1 else 0) : Int32))
set_option maxHeartbeats 1500000 in
theorem fX7_readExpression_ok (x1 : Int32) (σ : Sg) (r : Sg) (hf : fX7_readExpression x1 σ = some r) : Cl true 6 12091 [.ref 60, .int x1] σ (.inl none, r) := by
  refine ⟨iX7_readExpression, rfl, Nat.le_of_ble_eq_true rfl, Nat.le_of_ble_eq_true rfl, ?_⟩
  show Go true 6 iX7_readExpression (0, [some (.ref 60), some (.int x1), none], [], σ) (.inl none, r)
  unfold fX7_readExpression at hf
  refine go_n 6 (f := (10, [some (.ref 60), some (.int x1), none], [], (wi (wi σ 60 29 0) 60 30 0))) rfl ?_
  refine go_n 1 (f := (11, [some (.ref 60), some (.int x1), none], [.int x1], (wi (wi σ 60 29 0) 60 30 0))) rfl ?_
  refine go_m (f := (19, [some (.ref 60), some (.int x1), none], [.int ((if x1 = 0 then 1 else 0) : Int32)], (wi (wi σ 60 29 0) 60 30 0))) ?_ (fun hJ18 => ?_)
  · generalize hz2 : ((if x1 = 0 then 1 else 0) : Int32) = z2 at hf ⊢
    have oz2 : am_ok 3 z2 = true := hz2 ▸ (okb rfl rfl)
    try dsimp only at hf
    refine go_n 1 (f := (20, [some (.ref 60), some (.int x1), some (.int z2)], [], (wi (wi σ 60 29 0) 60 30 0))) rfl ?_
    exact fX7_readExpression_L20_ok _   N0 _ _ _ hf
  · by_cases h1 : x1 = 0
    · refine go_it (t := 18) (f := 14) (L1 := [some (.ref 60), some (.int x1), none]) (st1 := []) (σ1 := (wi (wi σ 60 29 0) 60 30 0)) rfl h1 ?_
      refine go_n 1 (f := (19, [some (.ref 60), some (.int x1), none], [.int 1], (wi (wi σ 60 29 0) 60 30 0))) rfl ?_
      refine go_e (L1 := [some (.ref 60), some (.int x1), none]) rfl rfl ?_
      simp only [if_pos h1] at hJ18
      first | exact hJ18 | (simp only [if_pos h1]; exact hJ18)
    · refine go_if (t := 18) (f := 14) (L1 := [some (.ref 60), some (.int x1), none]) (st1 := []) (σ1 := (wi (wi σ 60 29 0) 60 30 0)) rfl h1 ?_
      refine go_n 2 (f := (19, [some (.ref 60), some (.int x1), none], [.int 0], (wi (wi σ 60 29 0) 60 30 0))) rfl ?_
      refine go_e (L1 := [some (.ref 60), some (.int x1), none]) rfl rfl ?_
      simp only [if_neg h1] at hJ18
      first | exact hJ18 | (simp only [if_neg h1]; exact hJ18)
