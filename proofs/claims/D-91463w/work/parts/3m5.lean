set_option maxRecDepth 100000
/-! OldWeatherModel.winter(IIII)I -/
def fX7_winter (x1 : Int32) (x2 : Int32) (x3 : Int32) (x4 : Int32) (σ : Sg) : Option (Int32 × Sg) :=
  (fX7_isPlace x1 (wi σ 60 0 0)).bind fun q1 => if q1 = 0 then some ((-1000000), (wi σ 60 0 0)) else (fX7_isWinter x2).bind fun q4 => if q4 = 0 then some ((-1000000), (wi σ 60 0 0)) else (fX7_isKnown x3).bind fun q7 => if q7 = 0 then some ((-1000000), (wi σ 60 0 0)) else (fX7_in x4.toInt64 0 2).bind fun q10 => if q10 ≠ 0 then (fX7_knowBy x3 (wi σ 60 0 0)).bind fun q13 => (fX7_noShifts  q13).bind fun q15 => (fX7_findWinter x1 x2 q15).bind fun q17 => ((fun (z21 : Int32) => some (z21, q17)) (if x4 ≠ 0 then (if x4 ≠ 1 then (gi q17 60 76) else (gi q17 60 75)) else (gi q17 60 74))) else some ((-1000000), (wi σ 60 0 0))
set_option maxHeartbeats 1500000 in
theorem fX7_winter_ok (x1 : Int32) (x2 : Int32) (x3 : Int32) (x4 : Int32) (σ : Sg) (r : (Int32 × Sg)) (hf : fX7_winter x1 x2 x3 x4 σ = some r) : Cl true 14 12162 [.ref 60, .int x1, .int x2, .int x3, .int x4] σ (.inl (some (.int (r).1)), (r).2) := by
  refine ⟨iX7_winter, rfl, Nat.le_of_ble_eq_true rfl, Nat.le_of_ble_eq_true rfl, ?_⟩
  show Go true 14 iX7_winter (0, [some (.ref 60), some (.int x1), some (.int x2), some (.int x3), some (.int x4)], [], σ) (.inl (some (.int (r).1)), (r).2)
  unfold fX7_winter at hf
  refine go_n 5 (f := (7, [some (.ref 60), some (.int x1), some (.int x2), some (.int x3), some (.int x4)], [.int x1, .ref 60], (wi σ 60 0 0))) rfl ?_
  obtain ⟨q1, h2, hf⟩ := bnd hf
  refine go_c (mid := 12048) (args := [.ref 60, .int x1]) (pc := 10) (L := [some (.ref 60), some (.int x1), some (.int x2), some (.int x3), some (.int x4)]) (st := []) (σ := (wi σ 60 0 0)) rfl ((fX7_isPlace_ok _ _ q1 h2).deep (Nat.le_of_ble_eq_true rfl)) ?_
  by_cases h3 : q1 = 0
  · rw [if_pos h3] at hf
    refine go_it (t := 40) (f := 13) (L1 := [some (.ref 60), some (.int x1), some (.int x2), some (.int x3), some (.int x4)]) (st1 := []) (σ1 := (wi σ 60 0 0)) rfl h3 ?_
    refine go_e (L1 := [none, none, none, none, none]) rfl rfl ?_
    refine go_n 1 (f := (43, [none, none, none, none, none], [.int (-1000000)], (wi σ 60 0 0))) rfl ?_
    cases hf
    exact go_r rfl
  · rw [if_neg h3] at hf
    refine go_if (t := 40) (f := 13) (L1 := [some (.ref 60), some (.int x1), some (.int x2), some (.int x3), some (.int x4)]) (st1 := []) (σ1 := (wi σ 60 0 0)) rfl h3 ?_
    refine go_n 1 (f := (14, [some (.ref 60), some (.int x1), some (.int x2), some (.int x3), some (.int x4)], [.int x2], (wi σ 60 0 0))) rfl ?_
    obtain ⟨q4, h5, hf⟩ := bnd hf
    refine go_c (mid := 12163) (args := [.int x2]) (pc := 17) (L := [some (.ref 60), some (.int x1), some (.int x2), some (.int x3), some (.int x4)]) (st := []) (σ := (wi σ 60 0 0)) rfl ((fX7_isWinter_ok _ _ q4 h5).deep (Nat.le_of_ble_eq_true rfl)) ?_
    by_cases h6 : q4 = 0
    · rw [if_pos h6] at hf
      refine go_it (t := 40) (f := 20) (L1 := [some (.ref 60), some (.int x1), some (.int x2), some (.int x3), some (.int x4)]) (st1 := []) (σ1 := (wi σ 60 0 0)) rfl h6 ?_
      refine go_e (L1 := [none, none, none, none, none]) rfl rfl ?_
      refine go_n 1 (f := (43, [none, none, none, none, none], [.int (-1000000)], (wi σ 60 0 0))) rfl ?_
      cases hf
      exact go_r rfl
    · rw [if_neg h6] at hf
      refine go_if (t := 40) (f := 20) (L1 := [some (.ref 60), some (.int x1), some (.int x2), some (.int x3), some (.int x4)]) (st1 := []) (σ1 := (wi σ 60 0 0)) rfl h6 ?_
      refine go_n 1 (f := (21, [some (.ref 60), some (.int x1), some (.int x2), some (.int x3), some (.int x4)], [.int x3], (wi σ 60 0 0))) rfl ?_
      obtain ⟨q7, h8, hf⟩ := bnd hf
      refine go_c (mid := 12057) (args := [.int x3]) (pc := 24) (L := [some (.ref 60), some (.int x1), some (.int x2), some (.int x3), some (.int x4)]) (st := []) (σ := (wi σ 60 0 0)) rfl ((fX7_isKnown_ok _ _ q7 h8).deep (Nat.le_of_ble_eq_true rfl)) ?_
      by_cases h9 : q7 = 0
      · rw [if_pos h9] at hf
        refine go_it (t := 40) (f := 27) (L1 := [some (.ref 60), some (.int x1), some (.int x2), some (.int x3), some (.int x4)]) (st1 := []) (σ1 := (wi σ 60 0 0)) rfl h9 ?_
        refine go_e (L1 := [none, none, none, none, none]) rfl rfl ?_
        refine go_n 1 (f := (43, [none, none, none, none, none], [.int (-1000000)], (wi σ 60 0 0))) rfl ?_
        cases hf
        exact go_r rfl
      · rw [if_neg h9] at hf
        refine go_if (t := 40) (f := 27) (L1 := [some (.ref 60), some (.int x1), some (.int x2), some (.int x3), some (.int x4)]) (st1 := []) (σ1 := (wi σ 60 0 0)) rfl h9 ?_
        refine go_n 4 (f := (34, [some (.ref 60), some (.int x1), some (.int x2), some (.int x3), some (.int x4)], [.long 2, .long 0, .long x4.toInt64], (wi σ 60 0 0))) rfl ?_
        obtain ⟨q10, h11, hf⟩ := bnd hf
        refine go_c (mid := 12034) (args := [.long x4.toInt64, .long 0, .long 2]) (pc := 37) (L := [some (.ref 60), some (.int x1), some (.int x2), some (.int x3), some (.int x4)]) (st := []) (σ := (wi σ 60 0 0)) rfl ((fX7_in_ok _ _ _ _ q10 h11).deep (Nat.le_of_ble_eq_true rfl)) ?_
        by_cases h12 : q10 ≠ 0
        · rw [if_pos h12] at hf
          refine go_it (t := 44) (f := 40) (L1 := [some (.ref 60), some (.int x1), some (.int x2), some (.int x3), some (.int x4)]) (st1 := []) (σ1 := (wi σ 60 0 0)) rfl h12 ?_
          refine go_n 2 (f := (46, [some (.ref 60), some (.int x1), some (.int x2), some (.int x3), some (.int x4)], [.int x3, .ref 60], (wi σ 60 0 0))) rfl ?_
          obtain ⟨q13, h14, hf⟩ := bnd hf
          refine go_c (mid := 12107) (args := [.ref 60, .int x3]) (pc := 49) (L := [some (.ref 60), some (.int x1), some (.int x2), some (.int x3), some (.int x4)]) (st := []) (σ := (wi σ 60 0 0)) rfl ((fX7_knowBy_ok _ _ q13 h14).deep (Nat.le_of_ble_eq_true rfl)) ?_
          refine go_n 1 (f := (50, [some (.ref 60), some (.int x1), some (.int x2), some (.int x3), some (.int x4)], [.ref 60], q13)) rfl ?_
          obtain ⟨q15, h16, hf⟩ := bnd hf
          refine go_c (mid := 12141) (args := [.ref 60]) (pc := 53) (L := [some (.ref 60), some (.int x1), some (.int x2), some (.int x3), some (.int x4)]) (st := []) (σ := q13) rfl ((fX7_noShifts_ok _ q15 h16).deep (Nat.le_of_ble_eq_true rfl)) ?_
          refine go_n 3 (f := (56, [some (.ref 60), some (.int x1), some (.int x2), some (.int x3), some (.int x4)], [.int x2, .int x1, .ref 60], q15)) rfl ?_
          obtain ⟨q17, h18, hf⟩ := bnd hf
          refine go_c (mid := 12164) (args := [.ref 60, .int x1, .int x2]) (pc := 59) (L := [some (.ref 60), some (.int x1), some (.int x2), some (.int x3), some (.int x4)]) (st := []) (σ := q15) rfl ((fX7_findWinter_ok _ _ _ q17 h18).deep (Nat.le_of_ble_eq_true rfl)) ?_
          refine go_n 1 (f := (61, [some (.ref 60), some (.int x1), some (.int x2), some (.int x3), some (.int x4)], [.int x4], q17)) rfl ?_
          refine go_m (f := (88, [none, none, none, none, none], [.int (if x4 ≠ 0 then (if x4 ≠ 1 then (gi q17 60 76) else (gi q17 60 75)) else (gi q17 60 74))], q17)) ?_ (fun hJ22 => ?_)
          · generalize hz21 : (if x4 ≠ 0 then (if x4 ≠ 1 then (gi q17 60 76) else (gi q17 60 75)) else (gi q17 60 74)) = z21 at hf ⊢
            try dsimp only at hf
            cases hf
            exact go_r rfl
          · by_cases h19 : x4 ≠ 0
            · refine go_it (t := 71) (f := 64) (L1 := [some (.ref 60), some (.int x1), some (.int x2), some (.int x3), some (.int x4)]) (st1 := []) (σ1 := q17) rfl h19 ?_
              refine go_n 2 (f := (74, [some (.ref 60), some (.int x1), some (.int x2), some (.int x3), some (.int x4)], [.int 1, .int x4], q17)) rfl ?_
              by_cases h20 : x4 ≠ 1
              · refine go_it (t := 84) (f := 77) (L1 := [some (.ref 60), some (.int x1), some (.int x2), some (.int x3), some (.int x4)]) (st1 := []) (σ1 := q17) rfl h20 ?_
                refine go_n 2 (f := (88, [some (.ref 60), some (.int x1), some (.int x2), some (.int x3), some (.int x4)], [.int (gi q17 60 76)], q17)) rfl ?_
                refine go_e (L1 := [none, none, none, none, none]) rfl rfl ?_
                simp only [if_pos h19, if_pos h20] at hJ22
                first | exact hJ22 | (simp only [if_pos h19, if_pos h20]; exact hJ22)
              · refine go_if (t := 84) (f := 77) (L1 := [some (.ref 60), some (.int x1), some (.int x2), some (.int x3), some (.int x4)]) (st1 := []) (σ1 := q17) rfl h20 ?_
                refine go_n 3 (f := (88, [some (.ref 60), some (.int x1), some (.int x2), some (.int x3), some (.int x4)], [.int (gi q17 60 75)], q17)) rfl ?_
                refine go_e (L1 := [none, none, none, none, none]) rfl rfl ?_
                simp only [if_pos h19, if_neg h20] at hJ22
                first | exact hJ22 | (simp only [if_pos h19, if_neg h20]; exact hJ22)
            · refine go_if (t := 71) (f := 64) (L1 := [some (.ref 60), some (.int x1), some (.int x2), some (.int x3), some (.int x4)]) (st1 := []) (σ1 := q17) rfl h19 ?_
              refine go_n 3 (f := (88, [some (.ref 60), some (.int x1), some (.int x2), some (.int x3), some (.int x4)], [.int (gi q17 60 74)], q17)) rfl ?_
              refine go_e (L1 := [none, none, none, none, none]) rfl rfl ?_
              simp only [if_neg h19] at hJ22
              first | exact hJ22 | (simp only [if_neg h19]; exact hJ22)
        · rw [if_neg h12] at hf
          refine go_if (t := 44) (f := 40) (L1 := [some (.ref 60), some (.int x1), some (.int x2), some (.int x3), some (.int x4)]) (st1 := []) (σ1 := (wi σ 60 0 0)) rfl h12 ?_
          refine go_e (L1 := [none, none, none, none, none]) rfl rfl ?_
          refine go_n 1 (f := (43, [none, none, none, none, none], [.int (-1000000)], (wi σ 60 0 0))) rfl ?_
          cases hf
          exact go_r rfl
