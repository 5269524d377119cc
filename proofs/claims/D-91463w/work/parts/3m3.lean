set_option maxRecDepth 100000
/-! OldWeatherModel.force(III)I -/
def fX7_force (x1 : Int32) (x2 : Int32) (x3 : Int32) (σ : Sg) : Option (Int32 × Sg) :=
  (fX7_in x1.toInt64 0 ((gi σ 61 3).toInt64 - 1)).bind fun q1 => if q1 = 0 then some ((-1), (wi σ 60 0 0)) else (fX7_textAt x1).bind fun q4 => if inb (q4 + 1) 39698 then (fX7_in x2.toInt64 0 ((gi σ 61 (q4 + 1).toNatClampNeg).toInt64 - 1)).bind fun q7 => if q7 = 0 then some ((-1), (wi σ 60 0 0)) else (fX7_isKnown x3).bind fun q10 => if q10 ≠ 0 then (fX7_knowBy x3 (wi σ 60 0 0)).bind fun q13 => if inb x1 20 then if (gi q13 73 x1.toNatClampNeg) = 0 then some (0, q13) else if inb ((12 * x1) + x2) 240 then ((fun (z19 : Int32) => some (z19, q13)) ((if (gi q13 72 ((12 * x1) + x2).toNatClampNeg) ≠ 0 then 0 else 1) : Int32)) else none else none else some ((-1), (wi σ 60 0 0)) else none
set_option maxHeartbeats 1500000 in
theorem fX7_force_ok (x1 : Int32) (x2 : Int32) (x3 : Int32) (σ : Sg) (r : (Int32 × Sg)) (hf : fX7_force x1 x2 x3 σ = some r) : Cl true 6 12106 [.ref 60, .int x1, .int x2, .int x3] σ (.inl (some (.int (r).1)), (r).2) := by
  refine ⟨iX7_force, rfl, Nat.le_of_ble_eq_true rfl, Nat.le_of_ble_eq_true rfl, ?_⟩
  show Go true 6 iX7_force (0, [some (.ref 60), some (.int x1), some (.int x2), some (.int x3)], [], σ) (.inl (some (.int (r).1)), (r).2)
  unfold fX7_force at hf
  refine go_n 10 (f := (14, [some (.ref 60), some (.int x1), some (.int x2), some (.int x3)], [.int (gi σ 61 3), .long 0, .long x1.toInt64], (wi σ 60 0 0))) rfl ?_
  refine go_n 3 (f := (17, [some (.ref 60), some (.int x1), some (.int x2), some (.int x3)], [.long ((gi σ 61 3).toInt64 - 1), .long 0, .long x1.toInt64], (wi σ 60 0 0))) rfl ?_
  obtain ⟨q1, h2, hf⟩ := bnd hf
  refine go_c (mid := 12034) (args := [.long x1.toInt64, .long 0, .long ((gi σ 61 3).toInt64 - 1)]) (pc := 20) (L := [some (.ref 60), some (.int x1), some (.int x2), some (.int x3)]) (st := []) (σ := (wi σ 60 0 0)) rfl ((fX7_in_ok _ _ _ _ q1 h2).deep (Nat.le_of_ble_eq_true rfl)) ?_
  by_cases h3 : q1 = 0
  · rw [if_pos h3] at hf
    refine go_it (t := 53) (f := 23) (L1 := [some (.ref 60), some (.int x1), some (.int x2), some (.int x3)]) (st1 := []) (σ1 := (wi σ 60 0 0)) rfl h3 ?_
    refine go_e (L1 := [none, none, none, none]) rfl rfl ?_
    refine go_n 1 (f := (54, [none, none, none, none], [.int (-1)], (wi σ 60 0 0))) rfl ?_
    cases hf
    exact go_r rfl
  · rw [if_neg h3] at hf
    refine go_if (t := 53) (f := 23) (L1 := [some (.ref 60), some (.int x1), some (.int x2), some (.int x3)]) (st1 := []) (σ1 := (wi σ 60 0 0)) rfl h3 ?_
    refine go_n 6 (f := (31, [some (.ref 60), some (.int x1), some (.int x2), some (.int x3)], [.int x1, .ref 61, .long 0, .long x2.toInt64], (wi σ 60 0 0))) rfl ?_
    obtain ⟨q4, h5, hf⟩ := bnd hf
    refine go_c (mid := 12105) (args := [.int x1]) (pc := 34) (L := [some (.ref 60), some (.int x1), some (.int x2), some (.int x3)]) (st := [.ref 61, .long 0, .long x2.toInt64]) (σ := (wi σ 60 0 0)) rfl ((fX7_textAt_ok _ _ q4 h5).deep (Nat.le_of_ble_eq_true rfl)) ?_
    refine go_n 2 (f := (36, [some (.ref 60), some (.int x1), some (.int x2), some (.int x3)], [.int (q4 + 1), .ref 61, .long 0, .long x2.toInt64], (wi σ 60 0 0))) rfl ?_
    obtain ⟨h6, hf⟩ := grd hf
    refine go_iald rfl rfl rfl h6 ?_
    refine go_n 3 (f := (40, [some (.ref 60), some (.int x1), some (.int x2), some (.int x3)], [.long ((gi σ 61 (q4 + 1).toNatClampNeg).toInt64 - 1), .long 0, .long x2.toInt64], (wi σ 60 0 0))) rfl ?_
    obtain ⟨q7, h8, hf⟩ := bnd hf
    refine go_c (mid := 12034) (args := [.long x2.toInt64, .long 0, .long ((gi σ 61 (q4 + 1).toNatClampNeg).toInt64 - 1)]) (pc := 43) (L := [some (.ref 60), some (.int x1), some (.int x2), some (.int x3)]) (st := []) (σ := (wi σ 60 0 0)) rfl ((fX7_in_ok _ _ _ _ q7 h8).deep (Nat.le_of_ble_eq_true rfl)) ?_
    by_cases h9 : q7 = 0
    · rw [if_pos h9] at hf
      refine go_it (t := 53) (f := 46) (L1 := [some (.ref 60), some (.int x1), some (.int x2), some (.int x3)]) (st1 := []) (σ1 := (wi σ 60 0 0)) rfl h9 ?_
      refine go_e (L1 := [none, none, none, none]) rfl rfl ?_
      refine go_n 1 (f := (54, [none, none, none, none], [.int (-1)], (wi σ 60 0 0))) rfl ?_
      cases hf
      exact go_r rfl
    · rw [if_neg h9] at hf
      refine go_if (t := 53) (f := 46) (L1 := [some (.ref 60), some (.int x1), some (.int x2), some (.int x3)]) (st1 := []) (σ1 := (wi σ 60 0 0)) rfl h9 ?_
      refine go_n 1 (f := (47, [some (.ref 60), some (.int x1), some (.int x2), some (.int x3)], [.int x3], (wi σ 60 0 0))) rfl ?_
      obtain ⟨q10, h11, hf⟩ := bnd hf
      refine go_c (mid := 12057) (args := [.int x3]) (pc := 50) (L := [some (.ref 60), some (.int x1), some (.int x2), some (.int x3)]) (st := []) (σ := (wi σ 60 0 0)) rfl ((fX7_isKnown_ok _ _ q10 h11).deep (Nat.le_of_ble_eq_true rfl)) ?_
      by_cases h12 : q10 ≠ 0
      · rw [if_pos h12] at hf
        refine go_it (t := 55) (f := 53) (L1 := [some (.ref 60), some (.int x1), some (.int x2), some (.int x3)]) (st1 := []) (σ1 := (wi σ 60 0 0)) rfl h12 ?_
        refine go_n 2 (f := (57, [some (.ref 60), some (.int x1), some (.int x2), some (.int x3)], [.int x3, .ref 60], (wi σ 60 0 0))) rfl ?_
        obtain ⟨q13, h14, hf⟩ := bnd hf
        refine go_c (mid := 12107) (args := [.ref 60, .int x3]) (pc := 60) (L := [some (.ref 60), some (.int x1), some (.int x2), some (.int x3)]) (st := []) (σ := (wi σ 60 0 0)) rfl ((fX7_knowBy_ok _ _ q13 h14).deep (Nat.le_of_ble_eq_true rfl)) ?_
        refine go_n 3 (f := (65, [some (.ref 60), some (.int x1), some (.int x2), some (.int x3)], [.int x1, .ref 73], q13)) rfl ?_
        obtain ⟨h15, hf⟩ := grd hf
        refine go_bald rfl rfl (Or.inr rfl) h15 ?_
        by_cases h16 : (gi q13 73 x1.toNatClampNeg) = 0
        · rw [if_pos h16] at hf
          refine go_it (t := 87) (f := 69) (L1 := [some (.ref 60), some (.int x1), some (.int x2), some (.int x3)]) (st1 := []) (σ1 := q13) rfl h16 ?_
          refine go_e (L1 := [none, none, none, none]) rfl rfl ?_
          refine go_n 1 (f := (88, [none, none, none, none], [.int 0], q13)) rfl ?_
          cases hf
          exact go_r rfl
        · rw [if_neg h16] at hf
          refine go_if (t := 87) (f := 69) (L1 := [some (.ref 60), some (.int x1), some (.int x2), some (.int x3)]) (st1 := []) (σ1 := q13) rfl h16 ?_
          refine go_n 7 (f := (79, [some (.ref 60), some (.int x1), some (.int x2), some (.int x3)], [.int ((12 * x1) + x2), .ref 72], q13)) rfl ?_
          obtain ⟨h17, hf⟩ := grd hf
          refine go_bald rfl rfl (Or.inr rfl) h17 ?_
          refine go_m (f := (88, [none, none, none, none], [.int ((if (gi q13 72 ((12 * x1) + x2).toNatClampNeg) ≠ 0 then 0 else 1) : Int32)], q13)) ?_ (fun hJ20 => ?_)
          · generalize hz19 : ((if (gi q13 72 ((12 * x1) + x2).toNatClampNeg) ≠ 0 then 0 else 1) : Int32) = z19 at hf ⊢
            have oz19 : am_ok 3 z19 = true := hz19 ▸ (okb rfl rfl)
            try dsimp only at hf
            cases hf
            exact go_r rfl
          · by_cases h18 : (gi q13 72 ((12 * x1) + x2).toNatClampNeg) ≠ 0
            · refine go_it (t := 87) (f := 83) (L1 := [some (.ref 60), some (.int x1), some (.int x2), some (.int x3)]) (st1 := []) (σ1 := q13) rfl h18 ?_
              refine go_e (L1 := [none, none, none, none]) rfl rfl ?_
              refine go_n 1 (f := (88, [none, none, none, none], [.int 0], q13)) rfl ?_
              refine go_e (L1 := [none, none, none, none]) rfl rfl ?_
              simp only [if_pos h18] at hJ20
              first | exact hJ20 | (simp only [if_pos h18]; exact hJ20)
            · refine go_if (t := 87) (f := 83) (L1 := [some (.ref 60), some (.int x1), some (.int x2), some (.int x3)]) (st1 := []) (σ1 := q13) rfl h18 ?_
              refine go_n 2 (f := (88, [some (.ref 60), some (.int x1), some (.int x2), some (.int x3)], [.int 1], q13)) rfl ?_
              refine go_e (L1 := [none, none, none, none]) rfl rfl ?_
              simp only [if_neg h18] at hJ20
              first | exact hJ20 | (simp only [if_neg h18]; exact hJ20)
      · rw [if_neg h12] at hf
        refine go_if (t := 55) (f := 53) (L1 := [some (.ref 60), some (.int x1), some (.int x2), some (.int x3)]) (st1 := []) (σ1 := (wi σ 60 0 0)) rfl h12 ?_
        refine go_e (L1 := [none, none, none, none]) rfl rfl ?_
        refine go_n 1 (f := (54, [none, none, none, none], [.int (-1)], (wi σ 60 0 0))) rfl ?_
        cases hf
        exact go_r rfl
/-! OldWeatherModel.putRight(II)J -/
def fX7_putRight (x1 : Int32) (x2 : Int32) (σ : Sg) : Option (Int64 × Sg) :=
  (fX7_get x1 5 σ).bind fun q1 => (fX7_find 3 0 0 x1 x2 σ).bind fun q3 => ((fun (z6 : Int64) => (fX7_find 4 0 0 x1 x2 q3.2).bind fun q7 => ((fun (z10 : Int64) => some (((q1.toInt64 - z6) - z10), q7.2)) (if q7.1 = 0 then 0 else (gl q7.2 60 38)))) (if q3.1 = 0 then 0 else (gl q3.2 60 38)))
set_option maxHeartbeats 1500000 in
theorem fX7_putRight_ok (x1 : Int32) (x2 : Int32) (σ : Sg) (r : (Int64 × Sg)) (hf : fX7_putRight x1 x2 σ = some r) : Cl true 5 12117 [.ref 60, .int x1, .int x2] σ (.inl (some (.long (r).1)), (r).2) := by
  refine ⟨iX7_putRight, rfl, Nat.le_of_ble_eq_true rfl, Nat.le_of_ble_eq_true rfl, ?_⟩
  show Go true 5 iX7_putRight (0, [some (.ref 60), some (.int x1), some (.int x2), none, none], [], σ) (.inl (some (.long (r).1)), (r).2)
  unfold fX7_putRight at hf
  refine go_n 3 (f := (3, [some (.ref 60), some (.int x1), some (.int x2), none, none], [.int 5, .int x1, .ref 60], σ)) rfl ?_
  obtain ⟨q1, h2, hf⟩ := bnd hf
  refine go_c (mid := 12067) (args := [.ref 60, .int x1, .int 5]) (pc := 6) (L := [some (.ref 60), some (.int x1), some (.int x2), none, none]) (st := []) (σ := σ) rfl ((fX7_get_ok _ _ _ q1 h2).deep (Nat.le_of_ble_eq_true rfl)) ?_
  refine go_n 9 (f := (15, [some (.ref 60), some (.int x1), some (.int x2), some (.long q1.toInt64), none], [.int x2, .int x1, .int 0, .int 0, .int 3, .ref 60, .long q1.toInt64], σ)) rfl ?_
  obtain ⟨q3, h4, hf⟩ := bnd hf
  refine go_c (mid := 12118) (args := [.ref 60, .int 3, .int 0, .int 0, .int x1, .int x2]) (pc := 18) (L := [some (.ref 60), some (.int x1), some (.int x2), some (.long q1.toInt64), none]) (st := [.long q1.toInt64]) (σ := σ) rfl ((fX7_find_ok _ _ _ _ _ _ q3 h4).deep (Nat.le_of_ble_eq_true rfl)) ?_
  refine go_m (f := (29, [some (.ref 60), some (.int x1), some (.int x2), none, none], [.long (if q3.1 = 0 then 0 else (gl q3.2 60 38)), .long q1.toInt64], q3.2)) ?_ (fun hJ12 => ?_)
  · generalize hz6 : (if q3.1 = 0 then 0 else (gl q3.2 60 38)) = z6 at hf ⊢
    try dsimp only at hf
    refine go_n 9 (f := (38, [some (.ref 60), some (.int x1), some (.int x2), some (.long (q1.toInt64 - z6)), none], [.int x2, .int x1, .int 0, .int 0, .int 4, .ref 60, .long (q1.toInt64 - z6)], q3.2)) rfl ?_
    obtain ⟨q7, h8, hf⟩ := bnd hf
    refine go_c (mid := 12118) (args := [.ref 60, .int 4, .int 0, .int 0, .int x1, .int x2]) (pc := 41) (L := [some (.ref 60), some (.int x1), some (.int x2), some (.long (q1.toInt64 - z6)), none]) (st := [.long (q1.toInt64 - z6)]) (σ := q3.2) rfl ((fX7_find_ok _ _ _ _ _ _ q7 h8).deep (Nat.le_of_ble_eq_true rfl)) ?_
    refine go_m (f := (52, [none, none, none, none, none], [.long (if q7.1 = 0 then 0 else (gl q7.2 60 38)), .long (q1.toInt64 - z6)], q7.2)) ?_ (fun hJ11 => ?_)
    · generalize hz10 : (if q7.1 = 0 then 0 else (gl q7.2 60 38)) = z10 at hf ⊢
      try dsimp only at hf
      refine go_n 1 (f := (53, [none, none, none, none, none], [.long ((q1.toInt64 - z6) - z10)], q7.2)) rfl ?_
      cases hf
      exact go_r rfl
    · by_cases h9 : q7.1 = 0
      · refine go_it (t := 51) (f := 44) (L1 := [some (.ref 60), some (.int x1), some (.int x2), some (.long (q1.toInt64 - z6)), none]) (st1 := [.long (q1.toInt64 - z6)]) (σ1 := q7.2) rfl h9 ?_
        refine go_n 1 (f := (52, [some (.ref 60), some (.int x1), some (.int x2), some (.long (q1.toInt64 - z6)), none], [.long 0, .long (q1.toInt64 - z6)], q7.2)) rfl ?_
        refine go_e (L1 := [none, none, none, none, none]) rfl rfl ?_
        simp only [if_pos h9] at hJ11
        first | exact hJ11 | (simp only [if_pos h9]; exact hJ11)
      · refine go_if (t := 51) (f := 44) (L1 := [some (.ref 60), some (.int x1), some (.int x2), some (.long (q1.toInt64 - z6)), none]) (st1 := [.long (q1.toInt64 - z6)]) (σ1 := q7.2) rfl h9 ?_
        refine go_n 3 (f := (52, [some (.ref 60), some (.int x1), some (.int x2), some (.long (q1.toInt64 - z6)), none], [.long (gl q7.2 60 38), .long (q1.toInt64 - z6)], q7.2)) rfl ?_
        refine go_e (L1 := [none, none, none, none, none]) rfl rfl ?_
        simp only [if_neg h9] at hJ11
        first | exact hJ11 | (simp only [if_neg h9]; exact hJ11)
  · by_cases h5 : q3.1 = 0
    · refine go_it (t := 28) (f := 21) (L1 := [some (.ref 60), some (.int x1), some (.int x2), some (.long q1.toInt64), none]) (st1 := [.long q1.toInt64]) (σ1 := q3.2) rfl h5 ?_
      refine go_n 1 (f := (29, [some (.ref 60), some (.int x1), some (.int x2), some (.long q1.toInt64), none], [.long 0, .long q1.toInt64], q3.2)) rfl ?_
      refine go_e (L1 := [some (.ref 60), some (.int x1), some (.int x2), none, none]) rfl rfl ?_
      simp only [if_pos h5] at hJ12
      first | exact hJ12 | (simp only [if_pos h5]; exact hJ12)
    · refine go_if (t := 28) (f := 21) (L1 := [some (.ref 60), some (.int x1), some (.int x2), some (.long q1.toInt64), none]) (st1 := [.long q1.toInt64]) (σ1 := q3.2) rfl h5 ?_
      refine go_n 3 (f := (29, [some (.ref 60), some (.int x1), some (.int x2), some (.long q1.toInt64), none], [.long (gl q3.2 60 38), .long q1.toInt64], q3.2)) rfl ?_
      refine go_e (L1 := [some (.ref 60), some (.int x1), some (.int x2), none, none]) rfl rfl ?_
      simp only [if_neg h5] at hJ12
      first | exact hJ12 | (simp only [if_neg h5]; exact hJ12)
/-! OldWeatherModel.findPairs(II)V -/
def fX7_findPairs_J113 (x1 : Int32) (x2 : Int32) (x3 : Int32) (rec7 : (Int32 × Sg) → Option Sg) (σ : Sg) : Option Sg :=
  rec7 ((x3 + 1), σ)
set_option maxHeartbeats 1500000 in
theorem fX7_findPairs_J113_ok (x1 : Int32) (x2 : Int32) (x3 : Int32) (rec7 : (Int32 × Sg) → Option Sg) (σ : Sg) (hrec7 : ∀ (y3 : Int32) (τ : Sg) (r : Sg), rec7 (y3, τ) = some r → Go true 6 iX7_findPairs (7, [some (.ref 60), some (.int x1), some (.int x2), some (.int y3), none, none], [], τ) (.inl none, r)) (r : Sg) (hf : fX7_findPairs_J113 x1 x2 x3 rec7 σ = some r) : Go true 6 iX7_findPairs (113, [some (.ref 60), some (.int x1), some (.int x2), some (.int x3), none, none], [], σ) (.inl none, r) := by
  unfold fX7_findPairs_J113 at hf
  refine go_n 2 (f := (7, [some (.ref 60), some (.int x1), some (.int x2), some (.int (x3 + 1)), none, none], [], σ)) rfl ?_
  exact hrec7 _ _ _ hf
def fX7_findPairs_L7 (x1 : Int32) (x2 : Int32)  (rec7 : (Int32 × Sg) → Option Sg) (s : Int32 × Sg) : Option Sg :=
  match s with
  | (x3, σ) => if (gi σ 61 2) ≤ x3 then some σ else (fX7_get x3 0 σ).bind fun q2 => if q2 ≠ 0 then fX7_findPairs_J113 x1 x2 x3 rec7 σ else (fX7_get x3 5 σ).bind fun q5 => if q5 ≠ x2 then fX7_findPairs_J113 x1 x2 x3 rec7 σ else (fX7_sourceOf x3 σ).bind fun q8 => (fX7_handOf q8 σ).bind fun q10 => if q10 ≠ x1 then fX7_findPairs_J113 x1 x2 x3 rec7 σ else (fX7_isTold x3 σ).bind fun q13 => if q13 = 0 then fX7_findPairs_J113 x1 x2 x3 rec7 σ else (fX7_isSure x3 σ).bind fun q16 => if q16.1 = 0 then fX7_findPairs_J113 x1 x2 x3 rec7 q16.2 else (fX7_gaugeBy x3 (gi q16.2 60 9) q16.2).bind fun q19 => if q19.1 = (-1) then fX7_findPairs_J113 x1 x2 x3 rec7 q19.2 else (fX7_putRight q19.1 (gi q16.2 60 9) q19.2).bind fun q22 => if inb (gi q19.2 60 51) 200 then fX7_findPairs_J113 x1 x2 x3 rec7 (wi (wl q22.2 79 (gi q19.2 60 51).toNatClampNeg q22.1) 60 51 ((gi q22.2 60 51) + 1)) else none
set_option maxHeartbeats 1500000 in
theorem fX7_findPairs_L7_ok (x1 : Int32) (x2 : Int32)   : ∀ (n : Nat) (x3 : Int32) (σ : Sg) (r : Sg), lp (fX7_findPairs_L7 x1 x2 ) n (x3, σ) = some r → Go true 6 iX7_findPairs (7, [some (.ref 60), some (.int x1), some (.int x2), some (.int x3), none, none], [], σ) (.inl none, r) := by
  intro n
  induction n with
  | zero => intro x3 σ r hf; cases hf
  | succ n ih =>
    intro x3 σ r hf
    have hf : fX7_findPairs_L7 x1 x2  (lp (fX7_findPairs_L7 x1 x2 ) n) (x3, σ) = some r := hf
    have hrec7 := ih
    generalize lp (fX7_findPairs_L7 x1 x2 ) n = rec7 at hf hrec7
    unfold fX7_findPairs_L7 at hf
    dsimp only at hf
    refine go_n 5 (f := (14, [some (.ref 60), some (.int x1), some (.int x2), some (.int x3), none, none], [.int (gi σ 61 2), .int x3], σ)) rfl ?_
    by_cases h1 : (gi σ 61 2) ≤ x3
    · rw [if_pos h1] at hf
      refine go_it (t := 119) (f := 17) (L1 := [some (.ref 60), some (.int x1), some (.int x2), some (.int x3), none, none]) (st1 := []) (σ1 := σ) rfl h1 ?_
      cases hf
      exact go_r rfl
    · rw [if_neg h1] at hf
      refine go_if (t := 119) (f := 17) (L1 := [some (.ref 60), some (.int x1), some (.int x2), some (.int x3), none, none]) (st1 := []) (σ1 := σ) rfl h1 ?_
      refine go_n 3 (f := (20, [some (.ref 60), some (.int x1), some (.int x2), some (.int x3), none, none], [.int 0, .int x3, .ref 60], σ)) rfl ?_
      obtain ⟨q2, h3, hf⟩ := bnd hf
      refine go_c (mid := 12067) (args := [.ref 60, .int x3, .int 0]) (pc := 23) (L := [some (.ref 60), some (.int x1), some (.int x2), some (.int x3), none, none]) (st := []) (σ := σ) rfl ((fX7_get_ok _ _ _ q2 h3).deep (Nat.le_of_ble_eq_true rfl)) ?_
      by_cases h4 : q2 ≠ 0
      · rw [if_pos h4] at hf
        refine go_it (t := 113) (f := 26) (L1 := [some (.ref 60), some (.int x1), some (.int x2), some (.int x3), none, none]) (st1 := []) (σ1 := σ) rfl h4 ?_
        exact fX7_findPairs_J113_ok _ _ _ _ _ hrec7 _ hf
      · rw [if_neg h4] at hf
        refine go_if (t := 113) (f := 26) (L1 := [some (.ref 60), some (.int x1), some (.int x2), some (.int x3), none, none]) (st1 := []) (σ1 := σ) rfl h4 ?_
        refine go_n 3 (f := (29, [some (.ref 60), some (.int x1), some (.int x2), some (.int x3), none, none], [.int 5, .int x3, .ref 60], σ)) rfl ?_
        obtain ⟨q5, h6, hf⟩ := bnd hf
        refine go_c (mid := 12067) (args := [.ref 60, .int x3, .int 5]) (pc := 32) (L := [some (.ref 60), some (.int x1), some (.int x2), some (.int x3), none, none]) (st := []) (σ := σ) rfl ((fX7_get_ok _ _ _ q5 h6).deep (Nat.le_of_ble_eq_true rfl)) ?_
        refine go_n 1 (f := (33, [some (.ref 60), some (.int x1), some (.int x2), some (.int x3), none, none], [.int x2, .int q5], σ)) rfl ?_
        by_cases h7 : q5 ≠ x2
        · rw [if_pos h7] at hf
          refine go_it (t := 113) (f := 36) (L1 := [some (.ref 60), some (.int x1), some (.int x2), some (.int x3), none, none]) (st1 := []) (σ1 := σ) rfl h7 ?_
          exact fX7_findPairs_J113_ok _ _ _ _ _ hrec7 _ hf
        · rw [if_neg h7] at hf
          refine go_if (t := 113) (f := 36) (L1 := [some (.ref 60), some (.int x1), some (.int x2), some (.int x3), none, none]) (st1 := []) (σ1 := σ) rfl h7 ?_
          refine go_n 3 (f := (39, [some (.ref 60), some (.int x1), some (.int x2), some (.int x3), none, none], [.int x3, .ref 60, .ref 60], σ)) rfl ?_
          obtain ⟨q8, h9, hf⟩ := bnd hf
          refine go_c (mid := 12066) (args := [.ref 60, .int x3]) (pc := 42) (L := [some (.ref 60), some (.int x1), some (.int x2), some (.int x3), none, none]) (st := [.ref 60]) (σ := σ) rfl ((fX7_sourceOf_ok _ _ q8 h9).deep (Nat.le_of_ble_eq_true rfl)) ?_
          obtain ⟨q10, h11, hf⟩ := bnd hf
          refine go_c (mid := 12121) (args := [.ref 60, .int q8]) (pc := 45) (L := [some (.ref 60), some (.int x1), some (.int x2), some (.int x3), none, none]) (st := []) (σ := σ) rfl ((fX7_handOf_ok _ _ q10 h11).deep (Nat.le_of_ble_eq_true rfl)) ?_
          refine go_n 1 (f := (46, [some (.ref 60), some (.int x1), some (.int x2), some (.int x3), none, none], [.int x1, .int q10], σ)) rfl ?_
          by_cases h12 : q10 ≠ x1
          · rw [if_pos h12] at hf
            refine go_it (t := 113) (f := 49) (L1 := [some (.ref 60), some (.int x1), some (.int x2), some (.int x3), none, none]) (st1 := []) (σ1 := σ) rfl h12 ?_
            exact fX7_findPairs_J113_ok _ _ _ _ _ hrec7 _ hf
          · rw [if_neg h12] at hf
            refine go_if (t := 113) (f := 49) (L1 := [some (.ref 60), some (.int x1), some (.int x2), some (.int x3), none, none]) (st1 := []) (σ1 := σ) rfl h12 ?_
            refine go_n 2 (f := (51, [some (.ref 60), some (.int x1), some (.int x2), some (.int x3), none, none], [.int x3, .ref 60], σ)) rfl ?_
            obtain ⟨q13, h14, hf⟩ := bnd hf
            refine go_c (mid := 12115) (args := [.ref 60, .int x3]) (pc := 54) (L := [some (.ref 60), some (.int x1), some (.int x2), some (.int x3), none, none]) (st := []) (σ := σ) rfl ((fX7_isTold_ok _ _ q13 h14).deep (Nat.le_of_ble_eq_true rfl)) ?_
            by_cases h15 : q13 = 0
            · rw [if_pos h15] at hf
              refine go_it (t := 113) (f := 57) (L1 := [some (.ref 60), some (.int x1), some (.int x2), some (.int x3), none, none]) (st1 := []) (σ1 := σ) rfl h15 ?_
              exact fX7_findPairs_J113_ok _ _ _ _ _ hrec7 _ hf
            · rw [if_neg h15] at hf
              refine go_if (t := 113) (f := 57) (L1 := [some (.ref 60), some (.int x1), some (.int x2), some (.int x3), none, none]) (st1 := []) (σ1 := σ) rfl h15 ?_
              refine go_n 2 (f := (59, [some (.ref 60), some (.int x1), some (.int x2), some (.int x3), none, none], [.int x3, .ref 60], σ)) rfl ?_
              obtain ⟨q16, h17, hf⟩ := bnd hf
              refine go_c (mid := 12130) (args := [.ref 60, .int x3]) (pc := 62) (L := [some (.ref 60), some (.int x1), some (.int x2), some (.int x3), none, none]) (st := []) (σ := σ) rfl ((fX7_isSure_ok _ _ q16 h17).deep (Nat.le_of_ble_eq_true rfl)) ?_
              by_cases h18 : q16.1 = 0
              · rw [if_pos h18] at hf
                refine go_it (t := 113) (f := 65) (L1 := [some (.ref 60), some (.int x1), some (.int x2), some (.int x3), none, none]) (st1 := []) (σ1 := q16.2) rfl h18 ?_
                exact fX7_findPairs_J113_ok _ _ _ _ _ hrec7 _ hf
              · rw [if_neg h18] at hf
                refine go_if (t := 113) (f := 65) (L1 := [some (.ref 60), some (.int x1), some (.int x2), some (.int x3), none, none]) (st1 := []) (σ1 := q16.2) rfl h18 ?_
                refine go_n 6 (f := (75, [some (.ref 60), some (.int x1), some (.int x2), some (.int x3), some (.int (gi q16.2 60 9)), none], [.int (gi q16.2 60 9), .int x3, .ref 60], q16.2)) rfl ?_
                obtain ⟨q19, h20, hf⟩ := bnd hf
                refine go_c (mid := 12131) (args := [.ref 60, .int x3, .int (gi q16.2 60 9)]) (pc := 78) (L := [some (.ref 60), some (.int x1), some (.int x2), some (.int x3), some (.int (gi q16.2 60 9)), none]) (st := []) (σ := q16.2) rfl ((fX7_gaugeBy_ok _ _ _ q19 h20).deep (Nat.le_of_ble_eq_true rfl)) ?_
                refine go_n 3 (f := (83, [some (.ref 60), some (.int x1), some (.int x2), some (.int x3), some (.int (gi q16.2 60 9)), some (.int q19.1)], [.int (-1), .int q19.1], q19.2)) rfl ?_
                by_cases h21 : q19.1 = (-1)
                · rw [if_pos h21] at hf
                  refine go_it (t := 113) (f := 86) (L1 := [some (.ref 60), some (.int x1), some (.int x2), some (.int x3), some (.int (gi q16.2 60 9)), some (.int q19.1)]) (st1 := []) (σ1 := q19.2) rfl h21 ?_
                  refine go_e (L1 := [some (.ref 60), some (.int x1), some (.int x2), some (.int x3), none, none]) rfl rfl ?_
                  exact fX7_findPairs_J113_ok _ _ _ _ _ hrec7 _ hf
                · rw [if_neg h21] at hf
                  refine go_if (t := 113) (f := 86) (L1 := [some (.ref 60), some (.int x1), some (.int x2), some (.int x3), some (.int (gi q16.2 60 9)), some (.int q19.1)]) (st1 := []) (σ1 := q19.2) rfl h21 ?_
                  refine go_n 7 (f := (99, [some (.ref 60), some (.int x1), some (.int x2), some (.int x3), some (.int (gi q16.2 60 9)), some (.int q19.1)], [.int (gi q16.2 60 9), .int q19.1, .ref 60, .int (gi q19.2 60 51), .ref 79], q19.2)) rfl ?_
                  obtain ⟨q22, h23, hf⟩ := bnd hf
                  refine go_c (mid := 12117) (args := [.ref 60, .int q19.1, .int (gi q16.2 60 9)]) (pc := 102) (L := [some (.ref 60), some (.int x1), some (.int x2), some (.int x3), some (.int (gi q16.2 60 9)), some (.int q19.1)]) (st := [.int (gi q19.2 60 51), .ref 79]) (σ := q19.2) rfl ((fX7_putRight_ok _ _ _ q22 h23).deep (Nat.le_of_ble_eq_true rfl)) ?_
                  obtain ⟨h24, hf⟩ := grd hf
                  refine go_last rfl rfl rfl h24 ?_
                  refine go_n 6 (f := (113, [some (.ref 60), some (.int x1), some (.int x2), some (.int x3), some (.int (gi q16.2 60 9)), some (.int q19.1)], [], (wi (wl q22.2 79 (gi q19.2 60 51).toNatClampNeg q22.1) 60 51 ((gi q22.2 60 51) + 1)))) rfl ?_
                  refine go_e (L1 := [some (.ref 60), some (.int x1), some (.int x2), some (.int x3), none, none]) rfl rfl ?_
                  exact fX7_findPairs_J113_ok _ _ _ _ _ hrec7 _ hf
def fX7_findPairs (x1 : Int32) (x2 : Int32) (σ : Sg) : Option Sg :=
  lp (fX7_findPairs_L7 x1 x2 ) N0 (0, (wi σ 60 51 0))
set_option maxHeartbeats 1500000 in
theorem fX7_findPairs_ok (x1 : Int32) (x2 : Int32) (σ : Sg) (r : Sg) (hf : fX7_findPairs x1 x2 σ = some r) : Cl true 6 12129 [.ref 60, .int x1, .int x2] σ (.inl none, r) := by
  refine ⟨iX7_findPairs, rfl, Nat.le_of_ble_eq_true rfl, Nat.le_of_ble_eq_true rfl, ?_⟩
  show Go true 6 iX7_findPairs (0, [some (.ref 60), some (.int x1), some (.int x2), none, none, none], [], σ) (.inl none, r)
  unfold fX7_findPairs at hf
  refine go_n 5 (f := (7, [some (.ref 60), some (.int x1), some (.int x2), some (.int 0), none, none], [], (wi σ 60 51 0))) rfl ?_
  exact fX7_findPairs_L7_ok _ _   N0 _ _ _ hf
/-! OldWeatherModel.seal(II)I -/
def fX7_seal (x1 : Int32) (x2 : Int32) (σ : Sg) : Option (Int32 × Sg) :=
  (fX7_isMonth x1 x2).bind fun q1 => if q1 ≠ 0 then (fX7_addMonth x1 x2 (wi σ 60 0 0)).bind fun q4 => (fX7_sealAt x1 x2).bind fun q6 => (fX7_addFour q6 1 (gi q4 60 80) (gi q4 60 81) (gi q4 60 82) q4).bind fun q8 => (fX7_told (gi q8 60 80) q8).bind fun q10 => some (q10.1, q10.2) else (fX7_told (-1) (wi σ 60 0 0)).bind fun q12 => some (q12.1, q12.2)
set_option maxHeartbeats 1500000 in
theorem fX7_seal_ok (x1 : Int32) (x2 : Int32) (σ : Sg) (r : (Int32 × Sg)) (hf : fX7_seal x1 x2 σ = some r) : Cl true 6 12171 [.ref 60, .int x1, .int x2] σ (.inl (some (.int (r).1)), (r).2) := by
  refine ⟨iX7_seal, rfl, Nat.le_of_ble_eq_true rfl, Nat.le_of_ble_eq_true rfl, ?_⟩
  show Go true 6 iX7_seal (0, [some (.ref 60), some (.int x1), some (.int x2)], [], σ) (.inl (some (.int (r).1)), (r).2)
  unfold fX7_seal at hf
  refine go_n 5 (f := (7, [some (.ref 60), some (.int x1), some (.int x2)], [.int x2, .int x1], (wi σ 60 0 0))) rfl ?_
  obtain ⟨q1, h2, hf⟩ := bnd hf
  refine go_c (mid := 12172) (args := [.int x1, .int x2]) (pc := 10) (L := [some (.ref 60), some (.int x1), some (.int x2)]) (st := []) (σ := (wi σ 60 0 0)) rfl ((fX7_isMonth_ok _ _ _ q1 h2).deep (Nat.le_of_ble_eq_true rfl)) ?_
  by_cases h3 : q1 ≠ 0
  · rw [if_pos h3] at hf
    refine go_it (t := 19) (f := 13) (L1 := [some (.ref 60), some (.int x1), some (.int x2)]) (st1 := []) (σ1 := (wi σ 60 0 0)) rfl h3 ?_
    refine go_n 3 (f := (22, [some (.ref 60), some (.int x1), some (.int x2)], [.int x2, .int x1, .ref 60], (wi σ 60 0 0))) rfl ?_
    obtain ⟨q4, h5, hf⟩ := bnd hf
    refine go_c (mid := 12173) (args := [.ref 60, .int x1, .int x2]) (pc := 25) (L := [some (.ref 60), some (.int x1), some (.int x2)]) (st := []) (σ := (wi σ 60 0 0)) rfl ((fX7_addMonth_ok _ _ _ q4 h5).deep (Nat.le_of_ble_eq_true rfl)) ?_
    refine go_n 3 (f := (28, [some (.ref 60), some (.int x1), some (.int x2)], [.int x2, .int x1, .ref 60], q4)) rfl ?_
    obtain ⟨q6, h7, hf⟩ := bnd hf
    refine go_c (mid := 12175) (args := [.int x1, .int x2]) (pc := 31) (L := [some (.ref 60), some (.int x1), some (.int x2)]) (st := [.ref 60]) (σ := q4) rfl ((fX7_sealAt_ok _ _ _ q6 h7).deep (Nat.le_of_ble_eq_true rfl)) ?_
    refine go_n 7 (f := (44, [some (.ref 60), some (.int x1), some (.int x2)], [.int (gi q4 60 82), .int (gi q4 60 81), .int (gi q4 60 80), .int 1, .int q6, .ref 60], q4)) rfl ?_
    obtain ⟨q8, h9, hf⟩ := bnd hf
    refine go_c (mid := 12051) (args := [.ref 60, .int q6, .int 1, .int (gi q4 60 80), .int (gi q4 60 81), .int (gi q4 60 82)]) (pc := 47) (L := [some (.ref 60), some (.int x1), some (.int x2)]) (st := []) (σ := q4) rfl ((fX7_addFour_ok _ _ _ _ _ _ q8 h9).deep (Nat.le_of_ble_eq_true rfl)) ?_
    refine go_n 3 (f := (52, [some (.ref 60), some (.int x1), some (.int x2)], [.int (gi q8 60 80), .ref 60], q8)) rfl ?_
    obtain ⟨q10, h11, hf⟩ := bnd hf
    refine go_c (mid := 12035) (args := [.ref 60, .int (gi q8 60 80)]) (pc := 55) (L := [some (.ref 60), some (.int x1), some (.int x2)]) (st := []) (σ := q8) rfl ((fX7_told_ok _ _ q10 h11).deep (Nat.le_of_ble_eq_true rfl)) ?_
    cases hf
    exact go_r rfl
  · rw [if_neg h3] at hf
    refine go_if (t := 19) (f := 13) (L1 := [some (.ref 60), some (.int x1), some (.int x2)]) (st1 := []) (σ1 := (wi σ 60 0 0)) rfl h3 ?_
    refine go_n 2 (f := (15, [some (.ref 60), some (.int x1), some (.int x2)], [.int (-1), .ref 60], (wi σ 60 0 0))) rfl ?_
    obtain ⟨q12, h13, hf⟩ := bnd hf
    refine go_c (mid := 12035) (args := [.ref 60, .int (-1)]) (pc := 18) (L := [some (.ref 60), some (.int x1), some (.int x2)]) (st := []) (σ := (wi σ 60 0 0)) rfl ((fX7_told_ok _ _ q12 h13).deep (Nat.le_of_ble_eq_true rfl)) ?_
    cases hf
    exact go_r rfl
/-! OldWeatherModel.readPieces(IZZ)V -/
def fX7_readPieces_J26 (x1 : Int32)  (σ : Sg) : Option Sg :=
  if inb (x1 + 1) 144 then some (wi σ 67 (x1 + 1).toNatClampNeg (gi σ 60 23)) else none
set_option maxHeartbeats 1500000 in
theorem fX7_readPieces_J26_ok (x1 : Int32)  (σ : Sg)  (r : Sg) (hf : fX7_readPieces_J26 x1  σ = some r) : Go true 7 iX7_readPieces (26, [some (.ref 60), some (.int x1), none, none], [], σ) (.inl none, r) := by
  unfold fX7_readPieces_J26 at hf
  refine go_n 7 (f := (37, [some (.ref 60), some (.int x1), none, none], [.int (gi σ 60 23), .int (x1 + 1), .ref 67], σ)) rfl ?_
  obtain ⟨h3, hf⟩ := grd hf
  refine go_iast rfl rfl rfl h3 ?_
  cases hf
  exact go_r rfl
def fX7_readPieces (x1 : Int32) (x2 : Int32) (x3 : Int32) (σ : Sg) : Option Sg :=
  if inb x1 144 then if x2 = 0 then fX7_readPieces_J26 x1  (wi σ 67 x1.toNatClampNeg (gi σ 60 23)) else if (gi σ 60 20) ≠ 0 then fX7_readPieces_J26 x1  (wi σ 67 x1.toNatClampNeg (gi σ 60 23)) else (fX7_readExpression x3 (wi σ 67 x1.toNatClampNeg (gi σ 60 23))).bind fun q5 => fX7_readPieces_J26 x1  q5 else none
set_option maxHeartbeats 1500000 in
theorem fX7_readPieces_ok (x1 : Int32) (x2 : Int32) (x3 : Int32) (σ : Sg) (r : Sg) (hf : fX7_readPieces x1 x2 x3 σ = some r) : Cl true 7 12090 [.ref 60, .int x1, .int x2, .int x3] σ (.inl none, r) := by
  refine ⟨iX7_readPieces, rfl, Nat.le_of_ble_eq_true rfl, Nat.le_of_ble_eq_true rfl, ?_⟩
  show Go true 7 iX7_readPieces (0, [some (.ref 60), some (.int x1), some (.int x2), some (.int x3)], [], σ) (.inl none, r)
  unfold fX7_readPieces at hf
  refine go_n 5 (f := (9, [some (.ref 60), some (.int x1), some (.int x2), some (.int x3)], [.int (gi σ 60 23), .int x1, .ref 67], σ)) rfl ?_
  obtain ⟨h1, hf⟩ := grd hf
  refine go_iast rfl rfl rfl h1 ?_
  refine go_n 1 (f := (11, [some (.ref 60), some (.int x1), some (.int x2), some (.int x3)], [.int x2], (wi σ 67 x1.toNatClampNeg (gi σ 60 23)))) rfl ?_
  by_cases h2 : x2 = 0
  · rw [if_pos h2] at hf
    refine go_it (t := 26) (f := 14) (L1 := [some (.ref 60), some (.int x1), some (.int x2), some (.int x3)]) (st1 := []) (σ1 := (wi σ 67 x1.toNatClampNeg (gi σ 60 23))) rfl h2 ?_
    refine go_e (L1 := [some (.ref 60), some (.int x1), none, none]) rfl rfl ?_
    exact fX7_readPieces_J26_ok _  _  _ hf
  · rw [if_neg h2] at hf
    refine go_if (t := 26) (f := 14) (L1 := [some (.ref 60), some (.int x1), some (.int x2), some (.int x3)]) (st1 := []) (σ1 := (wi σ 67 x1.toNatClampNeg (gi σ 60 23))) rfl h2 ?_
    refine go_n 2 (f := (18, [some (.ref 60), some (.int x1), some (.int x2), some (.int x3)], [.int (gi σ 60 20)], (wi σ 67 x1.toNatClampNeg (gi σ 60 23)))) rfl ?_
    by_cases h4 : (gi σ 60 20) ≠ 0
    · rw [if_pos h4] at hf
      refine go_it (t := 26) (f := 21) (L1 := [some (.ref 60), some (.int x1), some (.int x2), some (.int x3)]) (st1 := []) (σ1 := (wi σ 67 x1.toNatClampNeg (gi σ 60 23))) rfl h4 ?_
      refine go_e (L1 := [some (.ref 60), some (.int x1), none, none]) rfl rfl ?_
      exact fX7_readPieces_J26_ok _  _  _ hf
    · rw [if_neg h4] at hf
      refine go_if (t := 26) (f := 21) (L1 := [some (.ref 60), some (.int x1), some (.int x2), some (.int x3)]) (st1 := []) (σ1 := (wi σ 67 x1.toNatClampNeg (gi σ 60 23))) rfl h4 ?_
      refine go_n 2 (f := (23, [some (.ref 60), some (.int x1), some (.int x2), some (.int x3)], [.int x3, .ref 60], (wi σ 67 x1.toNatClampNeg (gi σ 60 23)))) rfl ?_
      obtain ⟨q5, h6, hf⟩ := bnd hf
      refine go_c (mid := 12091) (args := [.ref 60, .int x3]) (pc := 26) (L := [some (.ref 60), some (.int x1), some (.int x2), some (.int x3)]) (st := []) (σ := (wi σ 67 x1.toNatClampNeg (gi σ 60 23))) rfl ((fX7_readExpression_ok _ _ q5 h6).deep (Nat.le_of_ble_eq_true rfl)) ?_
      refine go_e (L1 := [some (.ref 60), some (.int x1), none, none]) rfl rfl ?_
      exact fX7_readPieces_J26_ok _  _  _ hf
/-! OldWeatherModel.learn(II)V -/
def fX7_learn_J133 (x3 : Int32) (x4 : Int32) (s0 : Int64) (s1 : Int32) (rec37 : (Int32 × Sg) → Option Sg) (σ : Sg) : Option Sg :=
  if inb s1 160 then rec37 ((x4 + 1), (wl σ 78 s1.toNatClampNeg s0)) else none
set_option maxHeartbeats 1500000 in
theorem fX7_learn_J133_ok (x3 : Int32) (x4 : Int32) (s0 : Int64) (s1 : Int32) (rec37 : (Int32 × Sg) → Option Sg) (σ : Sg) (hrec37 : ∀ (y4 : Int32) (τ : Sg) (r : Sg), rec37 (y4, τ) = some r → Go true 7 iX7_learn (37, [some (.ref 60), none, none, some (.int x3), some (.int y4)], [], τ) (.inl none, r)) (r : Sg) (hf : fX7_learn_J133 x3 x4 s0 s1 rec37 σ = some r) : Go true 7 iX7_learn (133, [some (.ref 60), none, none, some (.int x3), some (.int x4)], [.long s0, .int s1, .ref 78], σ) (.inl none, r) := by
  unfold fX7_learn_J133 at hf
  obtain ⟨h12, hf⟩ := grd hf
  refine go_last rfl rfl rfl h12 ?_
  refine go_n 2 (f := (37, [some (.ref 60), none, none, some (.int x3), some (.int (x4 + 1))], [], (wl σ 78 s1.toNatClampNeg s0))) rfl ?_
  exact hrec37 _ _ _ hf
def fX7_learn_J117 (x3 : Int32) (x4 : Int32) (s0 : Int32) (rec37 : (Int32 × Sg) → Option Sg) (σ : Sg) : Option Sg :=
  if inb x4 200 then fX7_learn_J133 x3 x4 (gl σ 79 x4.toNatClampNeg) s0 rec37 σ else none
set_option maxHeartbeats 1500000 in
theorem fX7_learn_J117_ok (x3 : Int32) (x4 : Int32) (s0 : Int32) (rec37 : (Int32 × Sg) → Option Sg) (σ : Sg) (hrec37 : ∀ (y4 : Int32) (τ : Sg) (r : Sg), rec37 (y4, τ) = some r → Go true 7 iX7_learn (37, [some (.ref 60), none, none, some (.int x3), some (.int y4)], [], τ) (.inl none, r)) (r : Sg) (hf : fX7_learn_J117 x3 x4 s0 rec37 σ = some r) : Go true 7 iX7_learn (117, [some (.ref 60), none, none, some (.int x3), some (.int x4)], [.int s0, .ref 78], σ) (.inl none, r) := by
  unfold fX7_learn_J117 at hf
  refine go_n 3 (f := (123, [some (.ref 60), none, none, some (.int x3), some (.int x4)], [.int x4, .ref 79, .int s0, .ref 78], σ)) rfl ?_
  obtain ⟨h11, hf⟩ := grd hf
  refine go_lald rfl rfl rfl h11 ?_
  refine go_n 1 (f := (133, [some (.ref 60), none, none, some (.int x3), some (.int x4)], [.long (gl σ 79 x4.toNatClampNeg), .int s0, .ref 78], σ)) rfl ?_
  exact fX7_learn_J133_ok _ _ _ _ _ _ hrec37 _ hf
def fX7_learn_J89 (x3 : Int32) (x4 : Int32) (s0 : Int64) (s1 : Int32) (rec37 : (Int32 × Sg) → Option Sg) (σ : Sg) : Option Sg :=
  if inb s1 160 then if x4 = 0 then fX7_learn_J117 x3 x4 x3 rec37 (wl σ 77 s1.toNatClampNeg s0) else if inb x4 200 then if inb x3 160 then if (gl σ 79 x4.toNatClampNeg) ≤ (gl σ 78 x3.toNatClampNeg) then if inb x3 160 then fX7_learn_J133 x3 x4 (gl σ 78 x3.toNatClampNeg) x3 rec37 (wl σ 77 s1.toNatClampNeg s0) else none else fX7_learn_J117 x3 x4 x3 rec37 (wl σ 77 s1.toNatClampNeg s0) else none else none else none
set_option maxHeartbeats 1500000 in
theorem fX7_learn_J89_ok (x3 : Int32) (x4 : Int32) (s0 : Int64) (s1 : Int32) (rec37 : (Int32 × Sg) → Option Sg) (σ : Sg) (hrec37 : ∀ (y4 : Int32) (τ : Sg) (r : Sg), rec37 (y4, τ) = some r → Go true 7 iX7_learn (37, [some (.ref 60), none, none, some (.int x3), some (.int y4)], [], τ) (.inl none, r)) (r : Sg) (hf : fX7_learn_J89 x3 x4 s0 s1 rec37 σ = some r) : Go true 7 iX7_learn (89, [some (.ref 60), none, none, some (.int x3), some (.int x4)], [.long s0, .int s1, .ref 77], σ) (.inl none, r) := by
  unfold fX7_learn_J89 at hf
  obtain ⟨h9, hf⟩ := grd hf
  refine go_last rfl rfl rfl h9 ?_
  refine go_n 4 (f := (97, [some (.ref 60), none, none, some (.int x3), some (.int x4)], [.int x4, .int x3, .ref 78], (wl σ 77 s1.toNatClampNeg s0))) rfl ?_
  by_cases h10 : x4 = 0
  · rw [if_pos h10] at hf
    refine go_it (t := 117) (f := 100) (L1 := [some (.ref 60), none, none, some (.int x3), some (.int x4)]) (st1 := [.int x3, .ref 78]) (σ1 := (wl σ 77 s1.toNatClampNeg s0)) rfl h10 ?_
    exact fX7_learn_J117_ok _ _ _ _ _ hrec37 _ hf
  · rw [if_neg h10] at hf
    refine go_if (t := 117) (f := 100) (L1 := [some (.ref 60), none, none, some (.int x3), some (.int x4)]) (st1 := [.int x3, .ref 78]) (σ1 := (wl σ 77 s1.toNatClampNeg s0)) rfl h10 ?_
    refine go_n 3 (f := (106, [some (.ref 60), none, none, some (.int x3), some (.int x4)], [.int x4, .ref 79, .int x3, .ref 78], (wl σ 77 s1.toNatClampNeg s0))) rfl ?_
    obtain ⟨h13, hf⟩ := grd hf
    refine go_lald rfl rfl rfl h13 ?_
    refine go_n 3 (f := (112, [some (.ref 60), none, none, some (.int x3), some (.int x4)], [.int x3, .ref 78, .long (gl σ 79 x4.toNatClampNeg), .int x3, .ref 78], (wl σ 77 s1.toNatClampNeg s0))) rfl ?_
    obtain ⟨h14, hf⟩ := grd hf
    refine go_lald rfl rfl rfl h14 ?_
    refine go_n 1 (f := (114, [some (.ref 60), none, none, some (.int x3), some (.int x4)], [.int (lg_cmp (gl σ 79 x4.toNatClampNeg) (gl σ 78 x3.toNatClampNeg)), .int x3, .ref 78], (wl σ 77 s1.toNatClampNeg s0))) rfl ?_
    by_cases h15 : (gl σ 79 x4.toNatClampNeg) ≤ (gl σ 78 x3.toNatClampNeg)
    · rw [if_pos h15] at hf
      refine go_it (t := 127) (f := 117) (L1 := [some (.ref 60), none, none, some (.int x3), some (.int x4)]) (st1 := [.int x3, .ref 78]) (σ1 := (wl σ 77 s1.toNatClampNeg s0)) rfl ((lgc_le (gl σ 79 x4.toNatClampNeg) (gl σ 78 x3.toNatClampNeg)).mpr h15) ?_
      refine go_n 3 (f := (132, [some (.ref 60), none, none, some (.int x3), some (.int x4)], [.int x3, .ref 78, .int x3, .ref 78], (wl σ 77 s1.toNatClampNeg s0))) rfl ?_
      obtain ⟨h16, hf⟩ := grd hf
      refine go_lald rfl rfl rfl h16 ?_
      exact fX7_learn_J133_ok _ _ _ _ _ _ hrec37 _ hf
    · rw [if_neg h15] at hf
      refine go_if (t := 127) (f := 117) (L1 := [some (.ref 60), none, none, some (.int x3), some (.int x4)]) (st1 := [.int x3, .ref 78]) (σ1 := (wl σ 77 s1.toNatClampNeg s0)) rfl (fun q => h15 ((lgc_le (gl σ 79 x4.toNatClampNeg) (gl σ 78 x3.toNatClampNeg)).mp q)) ?_
      exact fX7_learn_J117_ok _ _ _ _ _ hrec37 _ hf
def fX7_learn_J73 (x3 : Int32) (x4 : Int32) (s0 : Int32) (rec37 : (Int32 × Sg) → Option Sg) (σ : Sg) : Option Sg :=
  if inb x4 200 then fX7_learn_J89 x3 x4 (gl σ 79 x4.toNatClampNeg) s0 rec37 σ else none
set_option maxHeartbeats 1500000 in
theorem fX7_learn_J73_ok (x3 : Int32) (x4 : Int32) (s0 : Int32) (rec37 : (Int32 × Sg) → Option Sg) (σ : Sg) (hrec37 : ∀ (y4 : Int32) (τ : Sg) (r : Sg), rec37 (y4, τ) = some r → Go true 7 iX7_learn (37, [some (.ref 60), none, none, some (.int x3), some (.int y4)], [], τ) (.inl none, r)) (r : Sg) (hf : fX7_learn_J73 x3 x4 s0 rec37 σ = some r) : Go true 7 iX7_learn (73, [some (.ref 60), none, none, some (.int x3), some (.int x4)], [.int s0, .ref 77], σ) (.inl none, r) := by
  unfold fX7_learn_J73 at hf
  refine go_n 3 (f := (79, [some (.ref 60), none, none, some (.int x3), some (.int x4)], [.int x4, .ref 79, .int s0, .ref 77], σ)) rfl ?_
  obtain ⟨h8, hf⟩ := grd hf
  refine go_lald rfl rfl rfl h8 ?_
  refine go_n 1 (f := (89, [some (.ref 60), none, none, some (.int x3), some (.int x4)], [.long (gl σ 79 x4.toNatClampNeg), .int s0, .ref 77], σ)) rfl ?_
  exact fX7_learn_J89_ok _ _ _ _ _ _ hrec37 _ hf
def fX7_learn_L37 (x3 : Int32)  (rec37 : (Int32 × Sg) → Option Sg) (s : Int32 × Sg) : Option Sg :=
  match s with
  | (x4, σ) => if (gi σ 60 51) ≤ x4 then some σ else if x4 = 0 then fX7_learn_J73 x3 x4 x3 rec37 σ else if inb x4 200 then if inb x3 160 then if (gl σ 77 x3.toNatClampNeg) ≤ (gl σ 79 x4.toNatClampNeg) then if inb x3 160 then fX7_learn_J89 x3 x4 (gl σ 77 x3.toNatClampNeg) x3 rec37 σ else none else fX7_learn_J73 x3 x4 x3 rec37 σ else none else none
set_option maxHeartbeats 1500000 in
theorem fX7_learn_L37_ok (x3 : Int32)   : ∀ (n : Nat) (x4 : Int32) (σ : Sg) (r : Sg), lp (fX7_learn_L37 x3 ) n (x4, σ) = some r → Go true 7 iX7_learn (37, [some (.ref 60), none, none, some (.int x3), some (.int x4)], [], σ) (.inl none, r) := by
  intro n
  induction n with
  | zero => intro x4 σ r hf; cases hf
  | succ n ih =>
    intro x4 σ r hf
    have hf : fX7_learn_L37 x3  (lp (fX7_learn_L37 x3 ) n) (x4, σ) = some r := hf
    have hrec37 := ih
    generalize lp (fX7_learn_L37 x3 ) n = rec37 at hf hrec37
    unfold fX7_learn_L37 at hf
    dsimp only at hf
    refine go_n 3 (f := (43, [some (.ref 60), none, none, some (.int x3), some (.int x4)], [.int (gi σ 60 51), .int x4], σ)) rfl ?_
    by_cases h6 : (gi σ 60 51) ≤ x4
    · rw [if_pos h6] at hf
      refine go_it (t := 140) (f := 46) (L1 := [some (.ref 60), none, none, some (.int x3), some (.int x4)]) (st1 := []) (σ1 := σ) rfl h6 ?_
      cases hf
      exact go_r rfl
    · rw [if_neg h6] at hf
      refine go_if (t := 140) (f := 46) (L1 := [some (.ref 60), none, none, some (.int x3), some (.int x4)]) (st1 := []) (σ1 := σ) rfl h6 ?_
      refine go_n 4 (f := (53, [some (.ref 60), none, none, some (.int x3), some (.int x4)], [.int x4, .int x3, .ref 77], σ)) rfl ?_
      by_cases h7 : x4 = 0
      · rw [if_pos h7] at hf
        refine go_it (t := 73) (f := 56) (L1 := [some (.ref 60), none, none, some (.int x3), some (.int x4)]) (st1 := [.int x3, .ref 77]) (σ1 := σ) rfl h7 ?_
        exact fX7_learn_J73_ok _ _ _ _ _ hrec37 _ hf
      · rw [if_neg h7] at hf
        refine go_if (t := 73) (f := 56) (L1 := [some (.ref 60), none, none, some (.int x3), some (.int x4)]) (st1 := [.int x3, .ref 77]) (σ1 := σ) rfl h7 ?_
        refine go_n 3 (f := (62, [some (.ref 60), none, none, some (.int x3), some (.int x4)], [.int x4, .ref 79, .int x3, .ref 77], σ)) rfl ?_
        obtain ⟨h17, hf⟩ := grd hf
        refine go_lald rfl rfl rfl h17 ?_
        refine go_n 3 (f := (68, [some (.ref 60), none, none, some (.int x3), some (.int x4)], [.int x3, .ref 77, .long (gl σ 79 x4.toNatClampNeg), .int x3, .ref 77], σ)) rfl ?_
        obtain ⟨h18, hf⟩ := grd hf
        refine go_lald rfl rfl rfl h18 ?_
        refine go_n 1 (f := (70, [some (.ref 60), none, none, some (.int x3), some (.int x4)], [.int (lg_cmp (gl σ 79 x4.toNatClampNeg) (gl σ 77 x3.toNatClampNeg)), .int x3, .ref 77], σ)) rfl ?_
        by_cases h19 : (gl σ 77 x3.toNatClampNeg) ≤ (gl σ 79 x4.toNatClampNeg)
        · rw [if_pos h19] at hf
          refine go_it (t := 83) (f := 73) (L1 := [some (.ref 60), none, none, some (.int x3), some (.int x4)]) (st1 := [.int x3, .ref 77]) (σ1 := σ) rfl ((lgc_ge (gl σ 79 x4.toNatClampNeg) (gl σ 77 x3.toNatClampNeg)).mpr h19) ?_
          refine go_n 3 (f := (88, [some (.ref 60), none, none, some (.int x3), some (.int x4)], [.int x3, .ref 77, .int x3, .ref 77], σ)) rfl ?_
          obtain ⟨h20, hf⟩ := grd hf
          refine go_lald rfl rfl rfl h20 ?_
          exact fX7_learn_J89_ok _ _ _ _ _ _ hrec37 _ hf
        · rw [if_neg h19] at hf
          refine go_if (t := 83) (f := 73) (L1 := [some (.ref 60), none, none, some (.int x3), some (.int x4)]) (st1 := [.int x3, .ref 77]) (σ1 := σ) rfl (fun q => h19 ((lgc_ge (gl σ 79 x4.toNatClampNeg) (gl σ 77 x3.toNatClampNeg)).mp q)) ?_
          exact fX7_learn_J73_ok _ _ _ _ _ hrec37 _ hf
def fX7_learn (x1 : Int32) (x2 : Int32) (σ : Sg) : Option Sg :=
  if inb ((20 * x1) + x2) 160 then if (gi σ 76 ((20 * x1) + x2).toNatClampNeg) = (-1) then (fX7_findPairs x1 x2 σ).bind fun q3 => if inb ((20 * x1) + x2) 160 then lp (fX7_learn_L37 ((20 * x1) + x2) ) N0 (0, (wi q3 76 ((20 * x1) + x2).toNatClampNeg (gi q3 60 51))) else none else some σ else none
set_option maxHeartbeats 1500000 in
theorem fX7_learn_ok (x1 : Int32) (x2 : Int32) (σ : Sg) (r : Sg) (hf : fX7_learn x1 x2 σ = some r) : Cl true 7 12128 [.ref 60, .int x1, .int x2] σ (.inl none, r) := by
  refine ⟨iX7_learn, rfl, Nat.le_of_ble_eq_true rfl, Nat.le_of_ble_eq_true rfl, ?_⟩
  show Go true 7 iX7_learn (0, [some (.ref 60), some (.int x1), some (.int x2), none, none], [], σ) (.inl none, r)
  unfold fX7_learn at hf
  refine go_n 9 (f := (12, [some (.ref 60), some (.int x1), some (.int x2), some (.int ((20 * x1) + x2)), none], [.int ((20 * x1) + x2), .ref 76], σ)) rfl ?_
  obtain ⟨h1, hf⟩ := grd hf
  refine go_iald rfl rfl rfl h1 ?_
  refine go_n 1 (f := (14, [some (.ref 60), some (.int x1), some (.int x2), some (.int ((20 * x1) + x2)), none], [.int (-1), .int (gi σ 76 ((20 * x1) + x2).toNatClampNeg)], σ)) rfl ?_
  by_cases h2 : (gi σ 76 ((20 * x1) + x2).toNatClampNeg) = (-1)
  · rw [if_pos h2] at hf
    refine go_it (t := 18) (f := 17) (L1 := [some (.ref 60), some (.int x1), some (.int x2), some (.int ((20 * x1) + x2)), none]) (st1 := []) (σ1 := σ) rfl h2 ?_
    refine go_n 3 (f := (21, [some (.ref 60), some (.int x1), some (.int x2), some (.int ((20 * x1) + x2)), none], [.int x2, .int x1, .ref 60], σ)) rfl ?_
    obtain ⟨q3, h4, hf⟩ := bnd hf
    refine go_c (mid := 12129) (args := [.ref 60, .int x1, .int x2]) (pc := 24) (L := [some (.ref 60), some (.int x1), some (.int x2), some (.int ((20 * x1) + x2)), none]) (st := []) (σ := σ) rfl ((fX7_findPairs_ok _ _ _ q3 h4).deep (Nat.le_of_ble_eq_true rfl)) ?_
    refine go_n 5 (f := (33, [some (.ref 60), some (.int x1), some (.int x2), some (.int ((20 * x1) + x2)), none], [.int (gi q3 60 51), .int ((20 * x1) + x2), .ref 76], q3)) rfl ?_
    obtain ⟨h5, hf⟩ := grd hf
    refine go_iast rfl rfl rfl h5 ?_
    refine go_n 2 (f := (37, [some (.ref 60), some (.int x1), some (.int x2), some (.int ((20 * x1) + x2)), some (.int 0)], [], (wi q3 76 ((20 * x1) + x2).toNatClampNeg (gi q3 60 51)))) rfl ?_
    refine go_e (L1 := [some (.ref 60), none, none, some (.int ((20 * x1) + x2)), some (.int 0)]) rfl rfl ?_
    exact fX7_learn_L37_ok _   N0 _ _ _ hf
  · rw [if_neg h2] at hf
    refine go_if (t := 18) (f := 17) (L1 := [some (.ref 60), some (.int x1), some (.int x2), some (.int ((20 * x1) + x2)), none]) (st1 := []) (σ1 := σ) rfl h2 ?_
    cases hf
    exact go_r rfl
/-! OldWeatherModel.readClause()V -/
def fX7_readClause_J348 (x2 : Int32) (x4 : Int32)  (σ : Sg) : Option Sg :=
  (fX7_readPieces (x2 + 8) x4 1 σ).bind fun q29 => some q29
set_option maxHeartbeats 1500000 in
theorem fX7_readClause_J348_ok (x2 : Int32) (x4 : Int32)  (σ : Sg)  (r : Sg) (hf : fX7_readClause_J348 x2 x4  σ = some r) : Go true 8 iX7_readClause (348, [some (.ref 60), none, some (.int x2), none, some (.int x4)], [], σ) (.inl none, r) := by
  unfold fX7_readClause_J348 at hf
  refine go_n 6 (f := (356, [some (.ref 60), none, some (.int x2), none, some (.int x4)], [.int 1, .int x4, .int (x2 + 8), .ref 60], σ)) rfl ?_
  obtain ⟨q29, h30, hf⟩ := bnd hf
  refine go_c (mid := 12090) (args := [.ref 60, .int (x2 + 8), .int x4, .int 1]) (pc := 359) (L := [some (.ref 60), none, some (.int x2), none, some (.int x4)]) (st := []) (σ := σ) rfl ((fX7_readPieces_ok _ _ _ _ q29 h30).deep (Nat.le_of_ble_eq_true rfl)) ?_
  cases hf
  exact go_r rfl
def fX7_readClause_J337 (x2 : Int32) (s0 : Int32)  (σ : Sg) : Option Sg :=
  if s0 = 0 then fX7_readClause_J348 x2 s0  σ else (fX7_next  σ).bind fun q31 => fX7_readClause_J348 x2 s0  q31
set_option maxHeartbeats 1500000 in
theorem fX7_readClause_J337_ok (x2 : Int32) (s0 : Int32)  (σ : Sg)  (r : Sg) (hf : fX7_readClause_J337 x2 s0  σ = some r) : Go true 8 iX7_readClause (337, [some (.ref 60), none, some (.int x2), none, none], [.int s0], σ) (.inl none, r) := by
  unfold fX7_readClause_J337 at hf
  refine go_n 2 (f := (341, [some (.ref 60), none, some (.int x2), none, some (.int s0)], [.int s0], σ)) rfl ?_
  by_cases h28 : s0 = 0
  · rw [if_pos h28] at hf
    refine go_it (t := 348) (f := 344) (L1 := [some (.ref 60), none, some (.int x2), none, some (.int s0)]) (st1 := []) (σ1 := σ) rfl h28 ?_
    exact fX7_readClause_J348_ok _ _  _  _ hf
  · rw [if_neg h28] at hf
    refine go_if (t := 348) (f := 344) (L1 := [some (.ref 60), none, some (.int x2), none, some (.int s0)]) (st1 := []) (σ1 := σ) rfl h28 ?_
    refine go_n 1 (f := (345, [some (.ref 60), none, some (.int x2), none, some (.int s0)], [.ref 60], σ)) rfl ?_
    obtain ⟨q31, h32, hf⟩ := bnd hf
    refine go_c (mid := 12080) (args := [.ref 60]) (pc := 348) (L := [some (.ref 60), none, some (.int x2), none, some (.int s0)]) (st := []) (σ := σ) rfl ((fX7_next_ok _ q31 h32).deep (Nat.le_of_ble_eq_true rfl)) ?_
    exact fX7_readClause_J348_ok _ _  _  _ hf
def fX7_readClause_J336 (x2 : Int32)  (σ : Sg) : Option Sg :=
  fX7_readClause_J337 x2 0  σ
set_option maxHeartbeats 1500000 in
theorem fX7_readClause_J336_ok (x2 : Int32)  (σ : Sg)  (r : Sg) (hf : fX7_readClause_J336 x2  σ = some r) : Go true 8 iX7_readClause (336, [some (.ref 60), none, some (.int x2), none, none], [], σ) (.inl none, r) := by
  unfold fX7_readClause_J336 at hf
  refine go_n 1 (f := (337, [some (.ref 60), none, some (.int x2), none, none], [.int 0], σ)) rfl ?_
  exact fX7_readClause_J337_ok _ _  _  _ hf
def fX7_readClause_J305 (x2 : Int32) (x3 : Int32)  (σ : Sg) : Option Sg :=
  (fX7_readPieces (x2 + 6) x3 0 σ).bind fun q25 => if (gi q25 60 20) ≠ 0 then fX7_readClause_J336 x2  q25 else (fX7_isWord 294 q25).bind fun q33 => ((fun (z36 : Int32) => if z36 = 0 then fX7_readClause_J348 x2 z36  q25 else (fX7_next  q25).bind fun q38 => fX7_readClause_J348 x2 z36  q38) ((if q33 = 0 then 0 else 1) : Int32))
set_option maxHeartbeats 1500000 in
theorem fX7_readClause_J305_ok (x2 : Int32) (x3 : Int32)  (σ : Sg)  (r : Sg) (hf : fX7_readClause_J305 x2 x3  σ = some r) : Go true 8 iX7_readClause (305, [some (.ref 60), none, some (.int x2), some (.int x3), none], [], σ) (.inl none, r) := by
  unfold fX7_readClause_J305 at hf
  refine go_n 6 (f := (312, [some (.ref 60), none, some (.int x2), some (.int x3), none], [.int 0, .int x3, .int (x2 + 6), .ref 60], σ)) rfl ?_
  obtain ⟨q25, h26, hf⟩ := bnd hf
  refine go_c (mid := 12090) (args := [.ref 60, .int (x2 + 6), .int x3, .int 0]) (pc := 315) (L := [some (.ref 60), none, some (.int x2), some (.int x3), none]) (st := []) (σ := σ) rfl ((fX7_readPieces_ok _ _ _ _ q25 h26).deep (Nat.le_of_ble_eq_true rfl)) ?_
  refine go_n 2 (f := (319, [some (.ref 60), none, some (.int x2), some (.int x3), none], [.int (gi q25 60 20)], q25)) rfl ?_
  by_cases h27 : (gi q25 60 20) ≠ 0
  · rw [if_pos h27] at hf
    refine go_it (t := 336) (f := 322) (L1 := [some (.ref 60), none, some (.int x2), some (.int x3), none]) (st1 := []) (σ1 := q25) rfl h27 ?_
    refine go_e (L1 := [some (.ref 60), none, some (.int x2), none, none]) rfl rfl ?_
    exact fX7_readClause_J336_ok _  _  _ hf
  · rw [if_neg h27] at hf
    refine go_if (t := 336) (f := 322) (L1 := [some (.ref 60), none, some (.int x2), some (.int x3), none]) (st1 := []) (σ1 := q25) rfl h27 ?_
    refine go_n 2 (f := (326, [some (.ref 60), none, some (.int x2), some (.int x3), none], [.long 294, .ref 60], q25)) rfl ?_
    obtain ⟨q33, h34, hf⟩ := bnd hf
    refine go_c (mid := 12085) (args := [.ref 60, .long 294]) (pc := 329) (L := [some (.ref 60), none, some (.int x2), some (.int x3), none]) (st := []) (σ := q25) rfl ((fX7_isWord_ok _ _ q33 h34).deep (Nat.le_of_ble_eq_true rfl)) ?_
    refine go_m (f := (337, [some (.ref 60), none, some (.int x2), none, none], [.int ((if q33 = 0 then 0 else 1) : Int32)], q25)) ?_ (fun hJ40 => ?_)
    · generalize hz36 : ((if q33 = 0 then 0 else 1) : Int32) = z36 at hf ⊢
      have oz36 : am_ok 3 z36 = true := hz36 ▸ (okb rfl rfl)
      try dsimp only at hf
      refine go_n 2 (f := (341, [some (.ref 60), none, some (.int x2), none, some (.int z36)], [.int z36], q25)) rfl ?_
      by_cases h37 : z36 = 0
      · rw [if_pos h37] at hf
        refine go_it (t := 348) (f := 344) (L1 := [some (.ref 60), none, some (.int x2), none, some (.int z36)]) (st1 := []) (σ1 := q25) rfl h37 ?_
        exact fX7_readClause_J348_ok _ _  _  _ hf
      · rw [if_neg h37] at hf
        refine go_if (t := 348) (f := 344) (L1 := [some (.ref 60), none, some (.int x2), none, some (.int z36)]) (st1 := []) (σ1 := q25) rfl h37 ?_
        refine go_n 1 (f := (345, [some (.ref 60), none, some (.int x2), none, some (.int z36)], [.ref 60], q25)) rfl ?_
        obtain ⟨q38, h39, hf⟩ := bnd hf
        refine go_c (mid := 12080) (args := [.ref 60]) (pc := 348) (L := [some (.ref 60), none, some (.int x2), none, some (.int z36)]) (st := []) (σ := q25) rfl ((fX7_next_ok _ q38 h39).deep (Nat.le_of_ble_eq_true rfl)) ?_
        exact fX7_readClause_J348_ok _ _  _  _ hf
    · by_cases h35 : q33 = 0
      · refine go_it (t := 336) (f := 332) (L1 := [some (.ref 60), none, some (.int x2), some (.int x3), none]) (st1 := []) (σ1 := q25) rfl h35 ?_
        refine go_e (L1 := [some (.ref 60), none, some (.int x2), none, none]) rfl rfl ?_
        refine go_n 1 (f := (337, [some (.ref 60), none, some (.int x2), none, none], [.int 0], q25)) rfl ?_
        refine go_e (L1 := [some (.ref 60), none, some (.int x2), none, none]) rfl rfl ?_
        simp only [if_pos h35] at hJ40
        first | exact hJ40 | (simp only [if_pos h35]; exact hJ40)
      · refine go_if (t := 336) (f := 332) (L1 := [some (.ref 60), none, some (.int x2), some (.int x3), none]) (st1 := []) (σ1 := q25) rfl h35 ?_
        refine go_n 2 (f := (337, [some (.ref 60), none, some (.int x2), some (.int x3), none], [.int 1], q25)) rfl ?_
        refine go_e (L1 := [some (.ref 60), none, some (.int x2), none, none]) rfl rfl ?_
        simp only [if_neg h35] at hJ40
        first | exact hJ40 | (simp only [if_neg h35]; exact hJ40)
def fX7_readClause_J302 (x2 : Int32) (x3 : Int32) (s0 : Int32)  (σ : Sg) : Option Sg :=
  (fX7_must s0 σ).bind fun q44 => fX7_readClause_J305 x2 x3  q44
set_option maxHeartbeats 1500000 in
theorem fX7_readClause_J302_ok (x2 : Int32) (x3 : Int32) (s0 : Int32)  (σ : Sg)  (r : Sg) (hf : fX7_readClause_J302 x2 x3 s0  σ = some r) : Go true 8 iX7_readClause (302, [some (.ref 60), none, some (.int x2), some (.int x3), none], [.int s0, .ref 60], σ) (.inl none, r) := by
  unfold fX7_readClause_J302 at hf
  obtain ⟨q44, h45, hf⟩ := bnd hf
  refine go_c (mid := 12086) (args := [.ref 60, .int s0]) (pc := 305) (L := [some (.ref 60), none, some (.int x2), some (.int x3), none]) (st := []) (σ := σ) rfl ((fX7_must_ok _ _ q44 h45).deep (Nat.le_of_ble_eq_true rfl)) ?_
  exact fX7_readClause_J305_ok _ _  _  _ hf
def fX7_readClause_J249 (x1 : Int32) (x2 : Int32) (s0 : Int32) (s1 : Int32)  (σ : Sg) : Option Sg :=
  if inb s1 144 then (fX7_readPieces (x2 + 4) 1 0 (wi σ 67 s1.toNatClampNeg s0)).bind fun q19 => ((fun (z23 : Int32) => if z23 = 0 then fX7_readClause_J305 x2 z23  q19 else if x1 ≠ 1 then (fX7_isWord 4707412 q19).bind fun q42 => fX7_readClause_J302 x2 z23 q42  q19 else (fX7_isWord 655 q19).bind fun q46 => fX7_readClause_J302 x2 z23 q46  q19) ((if x1 = 1 then 1 else (if x1 ≠ 5 then 0 else 1)) : Int32)) else none
set_option maxHeartbeats 1500000 in
theorem fX7_readClause_J249_ok (x1 : Int32) (x2 : Int32) (s0 : Int32) (s1 : Int32)  (σ : Sg)  (r : Sg) (hf : fX7_readClause_J249 x1 x2 s0 s1  σ = some r) : Go true 8 iX7_readClause (249, [some (.ref 60), some (.int x1), some (.int x2), none, none], [.int s0, .int s1, .ref 67], σ) (.inl none, r) := by
  unfold fX7_readClause_J249 at hf
  obtain ⟨h18, hf⟩ := grd hf
  refine go_iast rfl rfl rfl h18 ?_
  refine go_n 6 (f := (256, [some (.ref 60), some (.int x1), some (.int x2), none, none], [.int 0, .int 1, .int (x2 + 4), .ref 60], (wi σ 67 s1.toNatClampNeg s0))) rfl ?_
  obtain ⟨q19, h20, hf⟩ := bnd hf
  refine go_c (mid := 12090) (args := [.ref 60, .int (x2 + 4), .int 1, .int 0]) (pc := 259) (L := [some (.ref 60), some (.int x1), some (.int x2), none, none]) (st := []) (σ := (wi σ 67 s1.toNatClampNeg s0)) rfl ((fX7_readPieces_ok _ _ _ _ q19 h20).deep (Nat.le_of_ble_eq_true rfl)) ?_
  refine go_n 2 (f := (261, [some (.ref 60), some (.int x1), some (.int x2), none, none], [.int 1, .int x1], q19)) rfl ?_
  refine go_m (f := (274, [some (.ref 60), some (.int x1), some (.int x2), none, none], [.int ((if x1 = 1 then 1 else (if x1 ≠ 5 then 0 else 1)) : Int32)], q19)) ?_ (fun hJ48 => ?_)
  · generalize hz23 : ((if x1 = 1 then 1 else (if x1 ≠ 5 then 0 else 1)) : Int32) = z23 at hf ⊢
    have oz23 : am_ok 3 z23 = true := hz23 ▸ (okb rfl (okb rfl rfl))
    try dsimp only at hf
    refine go_n 2 (f := (276, [some (.ref 60), some (.int x1), some (.int x2), some (.int z23), none], [.int z23], q19)) rfl ?_
    by_cases h24 : z23 = 0
    · rw [if_pos h24] at hf
      refine go_it (t := 305) (f := 279) (L1 := [some (.ref 60), some (.int x1), some (.int x2), some (.int z23), none]) (st1 := []) (σ1 := q19) rfl h24 ?_
      refine go_e (L1 := [some (.ref 60), none, some (.int x2), some (.int z23), none]) rfl rfl ?_
      exact fX7_readClause_J305_ok _ _  _  _ hf
    · rw [if_neg h24] at hf
      refine go_if (t := 305) (f := 279) (L1 := [some (.ref 60), some (.int x1), some (.int x2), some (.int z23), none]) (st1 := []) (σ1 := q19) rfl h24 ?_
      refine go_n 3 (f := (282, [some (.ref 60), some (.int x1), some (.int x2), some (.int z23), none], [.int 1, .int x1, .ref 60], q19)) rfl ?_
      by_cases h41 : x1 ≠ 1
      · rw [if_pos h41] at hf
        refine go_it (t := 295) (f := 285) (L1 := [some (.ref 60), some (.int x1), some (.int x2), some (.int z23), none]) (st1 := [.ref 60]) (σ1 := q19) rfl h41 ?_
        refine go_n 2 (f := (299, [some (.ref 60), some (.int x1), some (.int x2), some (.int z23), none], [.long 4707412, .ref 60, .ref 60], q19)) rfl ?_
        obtain ⟨q42, h43, hf⟩ := bnd hf
        refine go_c (mid := 12085) (args := [.ref 60, .long 4707412]) (pc := 302) (L := [some (.ref 60), some (.int x1), some (.int x2), some (.int z23), none]) (st := [.ref 60]) (σ := q19) rfl ((fX7_isWord_ok _ _ q42 h43).deep (Nat.le_of_ble_eq_true rfl)) ?_
        refine go_e (L1 := [some (.ref 60), none, some (.int x2), some (.int z23), none]) rfl rfl ?_
        exact fX7_readClause_J302_ok _ _ _  _  _ hf
      · rw [if_neg h41] at hf
        refine go_if (t := 295) (f := 285) (L1 := [some (.ref 60), some (.int x1), some (.int x2), some (.int z23), none]) (st1 := [.ref 60]) (σ1 := q19) rfl h41 ?_
        refine go_n 2 (f := (289, [some (.ref 60), some (.int x1), some (.int x2), some (.int z23), none], [.long 655, .ref 60, .ref 60], q19)) rfl ?_
        obtain ⟨q46, h47, hf⟩ := bnd hf
        refine go_c (mid := 12085) (args := [.ref 60, .long 655]) (pc := 292) (L := [some (.ref 60), some (.int x1), some (.int x2), some (.int z23), none]) (st := [.ref 60]) (σ := q19) rfl ((fX7_isWord_ok _ _ q46 h47).deep (Nat.le_of_ble_eq_true rfl)) ?_
        refine go_n 1 (f := (302, [some (.ref 60), some (.int x1), some (.int x2), some (.int z23), none], [.int q46, .ref 60], q19)) rfl ?_
        refine go_e (L1 := [some (.ref 60), none, some (.int x2), some (.int z23), none]) rfl rfl ?_
        exact fX7_readClause_J302_ok _ _ _  _  _ hf
  · by_cases h21 : x1 = 1
    · refine go_it (t := 269) (f := 264) (L1 := [some (.ref 60), some (.int x1), some (.int x2), none, none]) (st1 := []) (σ1 := q19) rfl h21 ?_
      refine go_n 2 (f := (274, [some (.ref 60), some (.int x1), some (.int x2), none, none], [.int 1], q19)) rfl ?_
      refine go_e (L1 := [some (.ref 60), some (.int x1), some (.int x2), none, none]) rfl rfl ?_
      simp only [if_pos h21] at hJ48
      first | exact hJ48 | (simp only [if_pos h21]; exact hJ48)
    · refine go_if (t := 269) (f := 264) (L1 := [some (.ref 60), some (.int x1), some (.int x2), none, none]) (st1 := []) (σ1 := q19) rfl h21 ?_
      refine go_n 2 (f := (266, [some (.ref 60), some (.int x1), some (.int x2), none, none], [.int 5, .int x1], q19)) rfl ?_
      by_cases h22 : x1 ≠ 5
      · refine go_it (t := 273) (f := 269) (L1 := [some (.ref 60), some (.int x1), some (.int x2), none, none]) (st1 := []) (σ1 := q19) rfl h22 ?_
        refine go_n 1 (f := (274, [some (.ref 60), some (.int x1), some (.int x2), none, none], [.int 0], q19)) rfl ?_
        refine go_e (L1 := [some (.ref 60), some (.int x1), some (.int x2), none, none]) rfl rfl ?_
        simp only [if_neg h21, if_pos h22] at hJ48
        first | exact hJ48 | (simp only [if_neg h21, if_pos h22]; exact hJ48)
      · refine go_if (t := 273) (f := 269) (L1 := [some (.ref 60), some (.int x1), some (.int x2), none, none]) (st1 := []) (σ1 := q19) rfl h22 ?_
        refine go_n 2 (f := (274, [some (.ref 60), some (.int x1), some (.int x2), none, none], [.int 1], q19)) rfl ?_
        refine go_e (L1 := [some (.ref 60), some (.int x1), some (.int x2), none, none]) rfl rfl ?_
        simp only [if_neg h21, if_neg h22] at hJ48
        first | exact hJ48 | (simp only [if_neg h21, if_neg h22]; exact hJ48)
def fX7_readClause_J224 (x1 : Int32) (x2 : Int32) (s0 : Int32) (s1 : Int32)  (σ : Sg) : Option Sg :=
  if inb s1 144 then if x1 ≠ 1 then fX7_readClause_J249 x1 x2 0 (x2 + 2)  (wi σ 67 s1.toNatClampNeg s0) else (fX7_number 0 19 (wi σ 67 s1.toNatClampNeg s0)).bind fun q49 => fX7_readClause_J249 x1 x2 q49.1 (x2 + 2)  q49.2 else none
set_option maxHeartbeats 1500000 in
theorem fX7_readClause_J224_ok (x1 : Int32) (x2 : Int32) (s0 : Int32) (s1 : Int32)  (σ : Sg)  (r : Sg) (hf : fX7_readClause_J224 x1 x2 s0 s1  σ = some r) : Go true 8 iX7_readClause (224, [some (.ref 60), some (.int x1), some (.int x2), none, none], [.int s0, .int s1, .ref 67], σ) (.inl none, r) := by
  unfold fX7_readClause_J224 at hf
  obtain ⟨h16, hf⟩ := grd hf
  refine go_iast rfl rfl rfl h16 ?_
  refine go_n 7 (f := (234, [some (.ref 60), some (.int x1), some (.int x2), none, none], [.int 1, .int x1, .int (x2 + 2), .ref 67], (wi σ 67 s1.toNatClampNeg s0))) rfl ?_
  by_cases h17 : x1 ≠ 1
  · rw [if_pos h17] at hf
    refine go_it (t := 248) (f := 237) (L1 := [some (.ref 60), some (.int x1), some (.int x2), none, none]) (st1 := [.int (x2 + 2), .ref 67]) (σ1 := (wi σ 67 s1.toNatClampNeg s0)) rfl h17 ?_
    refine go_n 1 (f := (249, [some (.ref 60), some (.int x1), some (.int x2), none, none], [.int 0, .int (x2 + 2), .ref 67], (wi σ 67 s1.toNatClampNeg s0))) rfl ?_
    exact fX7_readClause_J249_ok _ _ _ _  _  _ hf
  · rw [if_neg h17] at hf
    refine go_if (t := 248) (f := 237) (L1 := [some (.ref 60), some (.int x1), some (.int x2), none, none]) (st1 := [.int (x2 + 2), .ref 67]) (σ1 := (wi σ 67 s1.toNatClampNeg s0)) rfl h17 ?_
    refine go_n 3 (f := (242, [some (.ref 60), some (.int x1), some (.int x2), none, none], [.long 19, .long 0, .ref 60, .int (x2 + 2), .ref 67], (wi σ 67 s1.toNatClampNeg s0))) rfl ?_
    obtain ⟨q49, h50, hf⟩ := bnd hf
    refine go_c (mid := 12087) (args := [.ref 60, .long 0, .long 19]) (pc := 245) (L := [some (.ref 60), some (.int x1), some (.int x2), none, none]) (st := [.int (x2 + 2), .ref 67]) (σ := (wi σ 67 s1.toNatClampNeg s0)) rfl ((fX7_number_ok _ _ _ q49 h50).deep (Nat.le_of_ble_eq_true rfl)) ?_
    refine go_n 1 (f := (249, [some (.ref 60), some (.int x1), some (.int x2), none, none], [.int q49.1, .int (x2 + 2), .ref 67], q49.2)) rfl ?_
    exact fX7_readClause_J249_ok _ _ _ _  _  _ hf
def fX7_readClause_L46 (x1 : Int32) (x2 : Int32)  (rec46 : (Int32 × Sg) → Option Sg) (s : Int32 × Sg) : Option Sg :=
  match s with
  | (x3, σ) => if 12 ≤ x3 then if inb x2 144 then if x1 ≠ 0 then if x1 < 7 then if x1 ≠ 1 then if x1 ≠ 5 then if x1 ≠ 6 then fX7_readClause_J224 x1 x2 0 (x2 + 1)  (wi (wi σ 67 x2.toNatClampNeg x1) 60 21 ((gi σ 60 21) + 1)) else (fX7_kindAt  (wi (wi σ 67 x2.toNatClampNeg x1) 60 21 ((gi σ 60 21) + 1))).bind fun q51 => (fX7_choice q51 (wi (wi σ 67 x2.toNatClampNeg x1) 60 21 ((gi σ 60 21) + 1))).bind fun q53 => fX7_readClause_J224 x1 x2 q53.1 (x2 + 1)  q53.2 else (fX7_number 0 3 (wi (wi σ 67 x2.toNatClampNeg x1) 60 21 ((gi σ 60 21) + 1))).bind fun q55 => fX7_readClause_J224 x1 x2 q55.1 (x2 + 1)  q55.2 else (fX7_number 0 7 (wi (wi σ 67 x2.toNatClampNeg x1) 60 21 ((gi σ 60 21) + 1))).bind fun q57 => fX7_readClause_J224 x1 x2 q57.1 (x2 + 1)  q57.2 else ((fun (z60 : Int64) => (fX7_number 1 z60 (wi (wi σ 67 x2.toNatClampNeg x1) 60 21 ((gi σ 60 21) + 1))).bind fun q61 => if inb (x2 + 1) 144 then some (wi q61.2 67 (x2 + 1).toNatClampNeg q61.1) else none) ((if x1 ≠ 7 then 12 else 20) : Int64)) else (fX7_number 0 19 (wi (wi σ 67 x2.toNatClampNeg x1) 60 21 ((gi σ 60 21) + 1))).bind fun q65 => if inb (x2 + 1) 144 then (fX7_isWord 113301093 (wi q65.2 67 (x2 + 1).toNatClampNeg q65.1)).bind fun q68 => (fX7_must q68 (wi q65.2 67 (x2 + 1).toNatClampNeg q65.1)).bind fun q70 => (fX7_number 0 11 q70).bind fun q72 => if inb (x2 + 2) 144 then some (wi q72.2 67 (x2 + 2).toNatClampNeg q72.1) else none else none else none else if inb (x2 + x3) 144 then rec46 ((x3 + 1), (wi σ 67 (x2 + x3).toNatClampNeg 0)) else none
set_option maxHeartbeats 1500000 in
theorem fX7_readClause_L46_ok (x1 : Int32) (x2 : Int32)   : ∀ (n : Nat) (x3 : Int32) (σ : Sg) (r : Sg), lp (fX7_readClause_L46 x1 x2 ) n (x3, σ) = some r → Go true 8 iX7_readClause (46, [some (.ref 60), some (.int x1), some (.int x2), some (.int x3), none], [], σ) (.inl none, r) := by
  intro n
  induction n with
  | zero => intro x3 σ r hf; cases hf
  | succ n ih =>
    intro x3 σ r hf
    have hf : fX7_readClause_L46 x1 x2  (lp (fX7_readClause_L46 x1 x2 ) n) (x3, σ) = some r := hf
    have hrec46 := ih
    generalize lp (fX7_readClause_L46 x1 x2 ) n = rec46 at hf hrec46
    unfold fX7_readClause_L46 at hf
    dsimp only at hf
    refine go_n 2 (f := (49, [some (.ref 60), some (.int x1), some (.int x2), some (.int x3), none], [.int 12, .int x3], σ)) rfl ?_
    by_cases h9 : 12 ≤ x3
    · rw [if_pos h9] at hf
      refine go_it (t := 67) (f := 52) (L1 := [some (.ref 60), some (.int x1), some (.int x2), some (.int x3), none]) (st1 := []) (σ1 := σ) rfl h9 ?_
      refine go_n 4 (f := (73, [some (.ref 60), some (.int x1), some (.int x2), some (.int x3), none], [.int x1, .int x2, .ref 67], σ)) rfl ?_
      obtain ⟨h10, hf⟩ := grd hf
      refine go_iast rfl rfl rfl h10 ?_
      refine go_n 7 (f := (85, [some (.ref 60), some (.int x1), some (.int x2), some (.int x3), none], [.int x1], (wi (wi σ 67 x2.toNatClampNeg x1) 60 21 ((gi σ 60 21) + 1)))) rfl ?_
      by_cases h11 : x1 ≠ 0
      · rw [if_pos h11] at hf
        refine go_it (t := 132) (f := 88) (L1 := [some (.ref 60), some (.int x1), some (.int x2), some (.int x3), none]) (st1 := []) (σ1 := (wi (wi σ 67 x2.toNatClampNeg x1) 60 21 ((gi σ 60 21) + 1))) rfl h11 ?_
        refine go_n 2 (f := (135, [some (.ref 60), some (.int x1), some (.int x2), some (.int x3), none], [.int 7, .int x1], (wi (wi σ 67 x2.toNatClampNeg x1) 60 21 ((gi σ 60 21) + 1)))) rfl ?_
        by_cases h12 : x1 < 7
        · rw [if_pos h12] at hf
          refine go_it (t := 167) (f := 138) (L1 := [some (.ref 60), some (.int x1), some (.int x2), some (.int x3), none]) (st1 := []) (σ1 := (wi (wi σ 67 x2.toNatClampNeg x1) 60 21 ((gi σ 60 21) + 1))) rfl h12 ?_
          refine go_n 7 (f := (176, [some (.ref 60), some (.int x1), some (.int x2), some (.int x3), none], [.int 1, .int x1, .int (x2 + 1), .ref 67], (wi (wi σ 67 x2.toNatClampNeg x1) 60 21 ((gi σ 60 21) + 1)))) rfl ?_
          by_cases h13 : x1 ≠ 1
          · rw [if_pos h13] at hf
            refine go_it (t := 190) (f := 179) (L1 := [some (.ref 60), some (.int x1), some (.int x2), some (.int x3), none]) (st1 := [.int (x2 + 1), .ref 67]) (σ1 := (wi (wi σ 67 x2.toNatClampNeg x1) 60 21 ((gi σ 60 21) + 1))) rfl h13 ?_
            refine go_n 2 (f := (192, [some (.ref 60), some (.int x1), some (.int x2), some (.int x3), none], [.int 5, .int x1, .int (x2 + 1), .ref 67], (wi (wi σ 67 x2.toNatClampNeg x1) 60 21 ((gi σ 60 21) + 1)))) rfl ?_
            by_cases h14 : x1 ≠ 5
            · rw [if_pos h14] at hf
              refine go_it (t := 206) (f := 195) (L1 := [some (.ref 60), some (.int x1), some (.int x2), some (.int x3), none]) (st1 := [.int (x2 + 1), .ref 67]) (σ1 := (wi (wi σ 67 x2.toNatClampNeg x1) 60 21 ((gi σ 60 21) + 1))) rfl h14 ?_
              refine go_n 2 (f := (209, [some (.ref 60), some (.int x1), some (.int x2), some (.int x3), none], [.int 6, .int x1, .int (x2 + 1), .ref 67], (wi (wi σ 67 x2.toNatClampNeg x1) 60 21 ((gi σ 60 21) + 1)))) rfl ?_
              by_cases h15 : x1 ≠ 6
              · rw [if_pos h15] at hf
                refine go_it (t := 223) (f := 212) (L1 := [some (.ref 60), some (.int x1), some (.int x2), some (.int x3), none]) (st1 := [.int (x2 + 1), .ref 67]) (σ1 := (wi (wi σ 67 x2.toNatClampNeg x1) 60 21 ((gi σ 60 21) + 1))) rfl h15 ?_
                refine go_n 1 (f := (224, [some (.ref 60), some (.int x1), some (.int x2), some (.int x3), none], [.int 0, .int (x2 + 1), .ref 67], (wi (wi σ 67 x2.toNatClampNeg x1) 60 21 ((gi σ 60 21) + 1)))) rfl ?_
                refine go_e (L1 := [some (.ref 60), some (.int x1), some (.int x2), none, none]) rfl rfl ?_
                exact fX7_readClause_J224_ok _ _ _ _  _  _ hf
              · rw [if_neg h15] at hf
                refine go_if (t := 223) (f := 212) (L1 := [some (.ref 60), some (.int x1), some (.int x2), some (.int x3), none]) (st1 := [.int (x2 + 1), .ref 67]) (σ1 := (wi (wi σ 67 x2.toNatClampNeg x1) 60 21 ((gi σ 60 21) + 1))) rfl h15 ?_
                refine go_n 2 (f := (214, [some (.ref 60), some (.int x1), some (.int x2), some (.int x3), none], [.ref 60, .ref 60, .int (x2 + 1), .ref 67], (wi (wi σ 67 x2.toNatClampNeg x1) 60 21 ((gi σ 60 21) + 1)))) rfl ?_
                obtain ⟨q51, h52, hf⟩ := bnd hf
                refine go_c (mid := 12088) (args := [.ref 60]) (pc := 217) (L := [some (.ref 60), some (.int x1), some (.int x2), some (.int x3), none]) (st := [.ref 60, .int (x2 + 1), .ref 67]) (σ := (wi (wi σ 67 x2.toNatClampNeg x1) 60 21 ((gi σ 60 21) + 1))) rfl ((fX7_kindAt_ok _ q51 h52).deep (Nat.le_of_ble_eq_true rfl)) ?_
                obtain ⟨q53, h54, hf⟩ := bnd hf
                refine go_c (mid := 12089) (args := [.ref 60, .int q51]) (pc := 220) (L := [some (.ref 60), some (.int x1), some (.int x2), some (.int x3), none]) (st := [.int (x2 + 1), .ref 67]) (σ := (wi (wi σ 67 x2.toNatClampNeg x1) 60 21 ((gi σ 60 21) + 1))) rfl ((fX7_choice_ok _ _ q53 h54).deep (Nat.le_of_ble_eq_true rfl)) ?_
                refine go_n 1 (f := (224, [some (.ref 60), some (.int x1), some (.int x2), some (.int x3), none], [.int q53.1, .int (x2 + 1), .ref 67], q53.2)) rfl ?_
                refine go_e (L1 := [some (.ref 60), some (.int x1), some (.int x2), none, none]) rfl rfl ?_
                exact fX7_readClause_J224_ok _ _ _ _  _  _ hf
            · rw [if_neg h14] at hf
              refine go_if (t := 206) (f := 195) (L1 := [some (.ref 60), some (.int x1), some (.int x2), some (.int x3), none]) (st1 := [.int (x2 + 1), .ref 67]) (σ1 := (wi (wi σ 67 x2.toNatClampNeg x1) 60 21 ((gi σ 60 21) + 1))) rfl h14 ?_
              refine go_n 3 (f := (200, [some (.ref 60), some (.int x1), some (.int x2), some (.int x3), none], [.long 3, .long 0, .ref 60, .int (x2 + 1), .ref 67], (wi (wi σ 67 x2.toNatClampNeg x1) 60 21 ((gi σ 60 21) + 1)))) rfl ?_
              obtain ⟨q55, h56, hf⟩ := bnd hf
              refine go_c (mid := 12087) (args := [.ref 60, .long 0, .long 3]) (pc := 203) (L := [some (.ref 60), some (.int x1), some (.int x2), some (.int x3), none]) (st := [.int (x2 + 1), .ref 67]) (σ := (wi (wi σ 67 x2.toNatClampNeg x1) 60 21 ((gi σ 60 21) + 1))) rfl ((fX7_number_ok _ _ _ q55 h56).deep (Nat.le_of_ble_eq_true rfl)) ?_
              refine go_n 1 (f := (224, [some (.ref 60), some (.int x1), some (.int x2), some (.int x3), none], [.int q55.1, .int (x2 + 1), .ref 67], q55.2)) rfl ?_
              refine go_e (L1 := [some (.ref 60), some (.int x1), some (.int x2), none, none]) rfl rfl ?_
              exact fX7_readClause_J224_ok _ _ _ _  _  _ hf
          · rw [if_neg h13] at hf
            refine go_if (t := 190) (f := 179) (L1 := [some (.ref 60), some (.int x1), some (.int x2), some (.int x3), none]) (st1 := [.int (x2 + 1), .ref 67]) (σ1 := (wi (wi σ 67 x2.toNatClampNeg x1) 60 21 ((gi σ 60 21) + 1))) rfl h13 ?_
            refine go_n 3 (f := (184, [some (.ref 60), some (.int x1), some (.int x2), some (.int x3), none], [.long 7, .long 0, .ref 60, .int (x2 + 1), .ref 67], (wi (wi σ 67 x2.toNatClampNeg x1) 60 21 ((gi σ 60 21) + 1)))) rfl ?_
            obtain ⟨q57, h58, hf⟩ := bnd hf
            refine go_c (mid := 12087) (args := [.ref 60, .long 0, .long 7]) (pc := 187) (L := [some (.ref 60), some (.int x1), some (.int x2), some (.int x3), none]) (st := [.int (x2 + 1), .ref 67]) (σ := (wi (wi σ 67 x2.toNatClampNeg x1) 60 21 ((gi σ 60 21) + 1))) rfl ((fX7_number_ok _ _ _ q57 h58).deep (Nat.le_of_ble_eq_true rfl)) ?_
            refine go_n 1 (f := (224, [some (.ref 60), some (.int x1), some (.int x2), some (.int x3), none], [.int q57.1, .int (x2 + 1), .ref 67], q57.2)) rfl ?_
            refine go_e (L1 := [some (.ref 60), some (.int x1), some (.int x2), none, none]) rfl rfl ?_
            exact fX7_readClause_J224_ok _ _ _ _  _  _ hf
        · rw [if_neg h12] at hf
          refine go_if (t := 167) (f := 138) (L1 := [some (.ref 60), some (.int x1), some (.int x2), some (.int x3), none]) (st1 := []) (σ1 := (wi (wi σ 67 x2.toNatClampNeg x1) 60 21 ((gi σ 60 21) + 1))) rfl h12 ?_
          refine go_n 9 (f := (150, [some (.ref 60), some (.int x1), some (.int x2), some (.int x3), none], [.int 7, .int x1, .long 1, .ref 60, .int (x2 + 1), .ref 67], (wi (wi σ 67 x2.toNatClampNeg x1) 60 21 ((gi σ 60 21) + 1)))) rfl ?_
          refine go_m (f := (162, [none, none, none, none, none], [.long ((if x1 ≠ 7 then 12 else 20) : Int64), .long 1, .ref 60, .int (x2 + 1), .ref 67], (wi (wi σ 67 x2.toNatClampNeg x1) 60 21 ((gi σ 60 21) + 1)))) ?_ (fun hJ64 => ?_)
          · generalize hz60 : ((if x1 ≠ 7 then 12 else 20) : Int64) = z60 at hf ⊢
            try dsimp only at hf
            obtain ⟨q61, h62, hf⟩ := bnd hf
            refine go_c (mid := 12087) (args := [.ref 60, .long 1, .long z60]) (pc := 165) (L := [none, none, none, none, none]) (st := [.int (x2 + 1), .ref 67]) (σ := (wi (wi σ 67 x2.toNatClampNeg x1) 60 21 ((gi σ 60 21) + 1))) rfl ((fX7_number_ok _ _ _ q61 h62).deep (Nat.le_of_ble_eq_true rfl)) ?_
            obtain ⟨h63, hf⟩ := grd hf
            refine go_iast rfl rfl rfl h63 ?_
            cases hf
            exact go_r rfl
          · by_cases h59 : x1 ≠ 7
            · refine go_it (t := 159) (f := 153) (L1 := [some (.ref 60), some (.int x1), some (.int x2), some (.int x3), none]) (st1 := [.long 1, .ref 60, .int (x2 + 1), .ref 67]) (σ1 := (wi (wi σ 67 x2.toNatClampNeg x1) 60 21 ((gi σ 60 21) + 1))) rfl h59 ?_
              refine go_n 1 (f := (162, [some (.ref 60), some (.int x1), some (.int x2), some (.int x3), none], [.long 12, .long 1, .ref 60, .int (x2 + 1), .ref 67], (wi (wi σ 67 x2.toNatClampNeg x1) 60 21 ((gi σ 60 21) + 1)))) rfl ?_
              refine go_e (L1 := [none, none, none, none, none]) rfl rfl ?_
              simp only [if_pos h59] at hJ64
              first | exact hJ64 | (simp only [if_pos h59]; exact hJ64)
            · refine go_if (t := 159) (f := 153) (L1 := [some (.ref 60), some (.int x1), some (.int x2), some (.int x3), none]) (st1 := [.long 1, .ref 60, .int (x2 + 1), .ref 67]) (σ1 := (wi (wi σ 67 x2.toNatClampNeg x1) 60 21 ((gi σ 60 21) + 1))) rfl h59 ?_
              refine go_n 2 (f := (162, [some (.ref 60), some (.int x1), some (.int x2), some (.int x3), none], [.long 20, .long 1, .ref 60, .int (x2 + 1), .ref 67], (wi (wi σ 67 x2.toNatClampNeg x1) 60 21 ((gi σ 60 21) + 1)))) rfl ?_
              refine go_e (L1 := [none, none, none, none, none]) rfl rfl ?_
              simp only [if_neg h59] at hJ64
              first | exact hJ64 | (simp only [if_neg h59]; exact hJ64)
      · rw [if_neg h11] at hf
        refine go_if (t := 132) (f := 88) (L1 := [some (.ref 60), some (.int x1), some (.int x2), some (.int x3), none]) (st1 := []) (σ1 := (wi (wi σ 67 x2.toNatClampNeg x1) 60 21 ((gi σ 60 21) + 1))) rfl h11 ?_
        refine go_n 8 (f := (100, [some (.ref 60), some (.int x1), some (.int x2), some (.int x3), none], [.long 19, .long 0, .ref 60, .int (x2 + 1), .ref 67], (wi (wi σ 67 x2.toNatClampNeg x1) 60 21 ((gi σ 60 21) + 1)))) rfl ?_
        obtain ⟨q65, h66, hf⟩ := bnd hf
        refine go_c (mid := 12087) (args := [.ref 60, .long 0, .long 19]) (pc := 103) (L := [some (.ref 60), some (.int x1), some (.int x2), some (.int x3), none]) (st := [.int (x2 + 1), .ref 67]) (σ := (wi (wi σ 67 x2.toNatClampNeg x1) 60 21 ((gi σ 60 21) + 1))) rfl ((fX7_number_ok _ _ _ q65 h66).deep (Nat.le_of_ble_eq_true rfl)) ?_
        obtain ⟨h67, hf⟩ := grd hf
        refine go_iast rfl rfl rfl h67 ?_
        refine go_n 3 (f := (109, [some (.ref 60), some (.int x1), some (.int x2), some (.int x3), none], [.long 113301093, .ref 60, .ref 60], (wi q65.2 67 (x2 + 1).toNatClampNeg q65.1))) rfl ?_
        obtain ⟨q68, h69, hf⟩ := bnd hf
        refine go_c (mid := 12085) (args := [.ref 60, .long 113301093]) (pc := 112) (L := [some (.ref 60), some (.int x1), some (.int x2), some (.int x3), none]) (st := [.ref 60]) (σ := (wi q65.2 67 (x2 + 1).toNatClampNeg q65.1)) rfl ((fX7_isWord_ok _ _ q68 h69).deep (Nat.le_of_ble_eq_true rfl)) ?_
        obtain ⟨q70, h71, hf⟩ := bnd hf
        refine go_c (mid := 12086) (args := [.ref 60, .int q68]) (pc := 115) (L := [some (.ref 60), some (.int x1), some (.int x2), some (.int x3), none]) (st := []) (σ := (wi q65.2 67 (x2 + 1).toNatClampNeg q65.1)) rfl ((fX7_must_ok _ _ q70 h71).deep (Nat.le_of_ble_eq_true rfl)) ?_
        refine go_n 8 (f := (127, [some (.ref 60), some (.int x1), some (.int x2), some (.int x3), none], [.long 11, .long 0, .ref 60, .int (x2 + 2), .ref 67], q70)) rfl ?_
        obtain ⟨q72, h73, hf⟩ := bnd hf
        refine go_c (mid := 12087) (args := [.ref 60, .long 0, .long 11]) (pc := 130) (L := [some (.ref 60), some (.int x1), some (.int x2), some (.int x3), none]) (st := [.int (x2 + 2), .ref 67]) (σ := q70) rfl ((fX7_number_ok _ _ _ q72 h73).deep (Nat.le_of_ble_eq_true rfl)) ?_
        obtain ⟨h74, hf⟩ := grd hf
        refine go_iast rfl rfl rfl h74 ?_
        cases hf
        exact go_r rfl
    · rw [if_neg h9] at hf
      refine go_if (t := 67) (f := 52) (L1 := [some (.ref 60), some (.int x1), some (.int x2), some (.int x3), none]) (st1 := []) (σ1 := σ) rfl h9 ?_
      refine go_n 6 (f := (60, [some (.ref 60), some (.int x1), some (.int x2), some (.int x3), none], [.int 0, .int (x2 + x3), .ref 67], σ)) rfl ?_
      obtain ⟨h75, hf⟩ := grd hf
      refine go_iast rfl rfl rfl h75 ?_
      refine go_n 2 (f := (46, [some (.ref 60), some (.int x1), some (.int x2), some (.int (x3 + 1)), none], [], (wi σ 67 (x2 + x3).toNatClampNeg 0))) rfl ?_
      exact hrec46 _ _ _ hf
def fX7_readClause  (σ : Sg) : Option Sg :=
  (fX7_headAt  σ).bind fun q1 => ((fun (z5 : Int32) => (fX7_must z5 σ).bind fun q6 => if (gi q6 60 20) = 0 then lp (fX7_readClause_L46 q1 (12 * (gi q6 60 21)) ) N0 (0, q6) else some q6) ((if q1 = (-1) then 0 else (if 12 ≤ (gi σ 60 21) then 0 else 1)) : Int32))
set_option maxHeartbeats 1500000 in
theorem fX7_readClause_ok  (σ : Sg) (r : Sg) (hf : fX7_readClause  σ = some r) : Cl true 8 12083 [.ref 60] σ (.inl none, r) := by
  refine ⟨iX7_readClause, rfl, Nat.le_of_ble_eq_true rfl, Nat.le_of_ble_eq_true rfl, ?_⟩
  show Go true 8 iX7_readClause (0, [some (.ref 60), none, none, none, none], [], σ) (.inl none, r)
  unfold fX7_readClause at hf
  refine go_n 1 (f := (1, [some (.ref 60), none, none, none, none], [.ref 60], σ)) rfl ?_
  obtain ⟨q1, h2, hf⟩ := bnd hf
  refine go_c (mid := 12084) (args := [.ref 60]) (pc := 4) (L := [some (.ref 60), none, none, none, none]) (st := []) (σ := σ) rfl ((fX7_headAt_ok _ q1 h2).deep (Nat.le_of_ble_eq_true rfl)) ?_
  refine go_n 4 (f := (8, [some (.ref 60), some (.int q1), none, none, none], [.int (-1), .int q1, .ref 60], σ)) rfl ?_
  refine go_m (f := (25, [some (.ref 60), some (.int q1), none, none, none], [.int ((if q1 = (-1) then 0 else (if 12 ≤ (gi σ 60 21) then 0 else 1)) : Int32), .ref 60], σ)) ?_ (fun hJ76 => ?_)
  · generalize hz5 : ((if q1 = (-1) then 0 else (if 12 ≤ (gi σ 60 21) then 0 else 1)) : Int32) = z5 at hf ⊢
    have oz5 : am_ok 3 z5 = true := hz5 ▸ (okb rfl (okb rfl rfl))
    try dsimp only at hf
    obtain ⟨q6, h7, hf⟩ := bnd hf
    refine go_c (mid := 12086) (args := [.ref 60, .int z5]) (pc := 28) (L := [some (.ref 60), some (.int q1), none, none, none]) (st := []) (σ := σ) rfl ((fX7_must_ok _ _ q6 h7).deep (Nat.le_of_ble_eq_true rfl)) ?_
    refine go_n 2 (f := (32, [some (.ref 60), some (.int q1), none, none, none], [.int (gi q6 60 20)], q6)) rfl ?_
    by_cases h8 : (gi q6 60 20) = 0
    · rw [if_pos h8] at hf
      refine go_it (t := 36) (f := 35) (L1 := [some (.ref 60), some (.int q1), none, none, none]) (st1 := []) (σ1 := q6) rfl h8 ?_
      refine go_n 7 (f := (46, [some (.ref 60), some (.int q1), some (.int (12 * (gi q6 60 21))), some (.int 0), none], [], q6)) rfl ?_
      exact fX7_readClause_L46_ok _ _   N0 _ _ _ hf
    · rw [if_neg h8] at hf
      refine go_if (t := 36) (f := 35) (L1 := [some (.ref 60), some (.int q1), none, none, none]) (st1 := []) (σ1 := q6) rfl h8 ?_
      cases hf
      exact go_r rfl
  · by_cases h3 : q1 = (-1)
    · refine go_it (t := 24) (f := 11) (L1 := [some (.ref 60), some (.int q1), none, none, none]) (st1 := [.ref 60]) (σ1 := σ) rfl h3 ?_
      refine go_n 1 (f := (25, [some (.ref 60), some (.int q1), none, none, none], [.int 0, .ref 60], σ)) rfl ?_
      refine go_e (L1 := [some (.ref 60), some (.int q1), none, none, none]) rfl rfl ?_
      simp only [if_pos h3] at hJ76
      first | exact hJ76 | (simp only [if_pos h3]; exact hJ76)
    · refine go_if (t := 24) (f := 11) (L1 := [some (.ref 60), some (.int q1), none, none, none]) (st1 := [.ref 60]) (σ1 := σ) rfl h3 ?_
      refine go_n 3 (f := (17, [some (.ref 60), some (.int q1), none, none, none], [.int 12, .int (gi σ 60 21), .ref 60], σ)) rfl ?_
      by_cases h4 : 12 ≤ (gi σ 60 21)
      · refine go_it (t := 24) (f := 20) (L1 := [some (.ref 60), some (.int q1), none, none, none]) (st1 := [.ref 60]) (σ1 := σ) rfl h4 ?_
        refine go_n 1 (f := (25, [some (.ref 60), some (.int q1), none, none, none], [.int 0, .ref 60], σ)) rfl ?_
        refine go_e (L1 := [some (.ref 60), some (.int q1), none, none, none]) rfl rfl ?_
        simp only [if_neg h3, if_pos h4] at hJ76
        first | exact hJ76 | (simp only [if_neg h3, if_pos h4]; exact hJ76)
      · refine go_if (t := 24) (f := 20) (L1 := [some (.ref 60), some (.int q1), none, none, none]) (st1 := [.ref 60]) (σ1 := σ) rfl h4 ?_
        refine go_n 2 (f := (25, [some (.ref 60), some (.int q1), none, none, none], [.int 1, .ref 60], σ)) rfl ?_
        refine go_e (L1 := [some (.ref 60), some (.int q1), none, none, none]) rfl rfl ?_
        simp only [if_neg h3, if_neg h4] at hJ76
        first | exact hJ76 | (simp only [if_neg h3, if_neg h4]; exact hJ76)
/-! OldWeatherModel.findLearned(II)Z -/
def fX7_findLearned_J249 (x4 : Int32) (x5 : Int64) (x7 : Int64)  (σ : Sg) : Option (Int32 × Sg) :=
  ((fun (z13 : Int32) => some (z13, (wl (wl σ 60 48 x5) 60 49 x7))) ((if x4 = (-1) then 0 else (if x7 < x5 then 0 else 1)) : Int32))
set_option maxHeartbeats 1500000 in
theorem fX7_findLearned_J249_ok (x4 : Int32) (x5 : Int64) (x7 : Int64)  (σ : Sg)  (r : (Int32 × Sg)) (hf : fX7_findLearned_J249 x4 x5 x7  σ = some r) : Go true 8 iX7_findLearned (249, [some (.ref 60), none, none, none, some (.int x4), some (.long x5), none, some (.long x7), none, none, none, none, none, none], [], σ) (.inl (some (.int (r).1)), (r).2) := by
  unfold fX7_findLearned_J249 at hf
  refine go_n 6 (f := (261, [some (.ref 60), none, none, none, some (.int x4), some (.long x5), none, some (.long x7), none, none, none, none, none, none], [], (wl (wl σ 60 48 x5) 60 49 x7))) rfl ?_
  refine go_n 2 (f := (264, [some (.ref 60), none, none, none, some (.int x4), some (.long x5), none, some (.long x7), none, none, none, none, none, none], [.int (-1), .int x4], (wl (wl σ 60 48 x5) 60 49 x7))) rfl ?_
  refine go_m (f := (280, [none, none, none, none, none, none, none, none, none, none, none, none, none, none], [.int ((if x4 = (-1) then 0 else (if x7 < x5 then 0 else 1)) : Int32)], (wl (wl σ 60 48 x5) 60 49 x7))) ?_ (fun hJ14 => ?_)
  · generalize hz13 : ((if x4 = (-1) then 0 else (if x7 < x5 then 0 else 1)) : Int32) = z13 at hf ⊢
    have oz13 : am_ok 3 z13 = true := hz13 ▸ (okb rfl (okb rfl rfl))
    try dsimp only at hf
    cases hf
    exact go_ret rfl rfl (Or.inr (Or.inl ⟨rfl, oz13⟩))
  · by_cases h11 : x4 = (-1)
    · refine go_it (t := 279) (f := 267) (L1 := [some (.ref 60), none, none, none, some (.int x4), some (.long x5), none, some (.long x7), none, none, none, none, none, none]) (st1 := []) (σ1 := (wl (wl σ 60 48 x5) 60 49 x7)) rfl h11 ?_
      refine go_e (L1 := [none, none, none, none, none, none, none, none, none, none, none, none, none, none]) rfl rfl ?_
      refine go_n 1 (f := (280, [none, none, none, none, none, none, none, none, none, none, none, none, none, none], [.int 0], (wl (wl σ 60 48 x5) 60 49 x7))) rfl ?_
      refine go_e (L1 := [none, none, none, none, none, none, none, none, none, none, none, none, none, none]) rfl rfl ?_
      simp only [if_pos h11] at hJ14
      first | exact hJ14 | (simp only [if_pos h11]; exact hJ14)
    · refine go_if (t := 279) (f := 267) (L1 := [some (.ref 60), none, none, none, some (.int x4), some (.long x5), none, some (.long x7), none, none, none, none, none, none]) (st1 := []) (σ1 := (wl (wl σ 60 48 x5) 60 49 x7)) rfl h11 ?_
      refine go_n 3 (f := (272, [some (.ref 60), none, none, none, some (.int x4), some (.long x5), none, some (.long x7), none, none, none, none, none, none], [.int (lg_cmp x5 x7)], (wl (wl σ 60 48 x5) 60 49 x7))) rfl ?_
      by_cases h12 : x7 < x5
      · refine go_it (t := 279) (f := 275) (L1 := [some (.ref 60), none, none, none, some (.int x4), some (.long x5), none, some (.long x7), none, none, none, none, none, none]) (st1 := []) (σ1 := (wl (wl σ 60 48 x5) 60 49 x7)) rfl ((lgc_gt x5 x7).mpr h12) ?_
        refine go_e (L1 := [none, none, none, none, none, none, none, none, none, none, none, none, none, none]) rfl rfl ?_
        refine go_n 1 (f := (280, [none, none, none, none, none, none, none, none, none, none, none, none, none, none], [.int 0], (wl (wl σ 60 48 x5) 60 49 x7))) rfl ?_
        refine go_e (L1 := [none, none, none, none, none, none, none, none, none, none, none, none, none, none]) rfl rfl ?_
        simp only [if_neg h11, if_pos h12] at hJ14
        first | exact hJ14 | (simp only [if_neg h11, if_pos h12]; exact hJ14)
      · refine go_if (t := 279) (f := 275) (L1 := [some (.ref 60), none, none, none, some (.int x4), some (.long x5), none, some (.long x7), none, none, none, none, none, none]) (st1 := []) (σ1 := (wl (wl σ 60 48 x5) 60 49 x7)) rfl (fun q => h12 ((lgc_gt x5 x7).mp q)) ?_
        refine go_n 2 (f := (280, [some (.ref 60), none, none, none, some (.int x4), some (.long x5), none, some (.long x7), none, none, none, none, none, none], [.int 1], (wl (wl σ 60 48 x5) 60 49 x7))) rfl ?_
        refine go_e (L1 := [none, none, none, none, none, none, none, none, none, none, none, none, none, none]) rfl rfl ?_
        simp only [if_neg h11, if_neg h12] at hJ14
        first | exact hJ14 | (simp only [if_neg h11, if_neg h12]; exact hJ14)
def fX7_findLearned_J243 (x1 : Int32) (x4 : Int32) (x5 : Int64) (x7 : Int64) (x9 : Int32) (x10 : Int32) (x11 : Int32) (rec86 : (Int64 × Int64 × Int32 × Int32 × Int32 × Sg) → Option (Int32 × Sg)) (σ : Sg) : Option (Int32 × Sg) :=
  rec86 (x5, x7, x9, x10, (x11 + 1), σ)
set_option maxHeartbeats 1500000 in
theorem fX7_findLearned_J243_ok (x1 : Int32) (x4 : Int32) (x5 : Int64) (x7 : Int64) (x9 : Int32) (x10 : Int32) (x11 : Int32) (rec86 : (Int64 × Int64 × Int32 × Int32 × Int32 × Sg) → Option (Int32 × Sg)) (σ : Sg) (hrec86 : ∀ (y5 : Int64) (y7 : Int64) (y9 : Int32) (y10 : Int32) (y11 : Int32) (τ : Sg) (r : (Int32 × Sg)), rec86 (y5, y7, y9, y10, y11, τ) = some r → Go true 8 iX7_findLearned (86, [some (.ref 60), some (.int x1), none, none, some (.int x4), some (.long y5), none, some (.long y7), none, some (.int y9), some (.int y10), some (.int y11), none, none], [], τ) (.inl (some (.int (r).1)), (r).2)) (r : (Int32 × Sg)) (hf : fX7_findLearned_J243 x1 x4 x5 x7 x9 x10 x11 rec86 σ = some r) : Go true 8 iX7_findLearned (243, [some (.ref 60), some (.int x1), none, none, some (.int x4), some (.long x5), none, some (.long x7), none, some (.int x9), some (.int x10), some (.int x11), none, none], [], σ) (.inl (some (.int (r).1)), (r).2) := by
  unfold fX7_findLearned_J243 at hf
  refine go_n 2 (f := (86, [some (.ref 60), some (.int x1), none, none, some (.int x4), some (.long x5), none, some (.long x7), none, some (.int x9), some (.int x10), some (.int (x11 + 1)), none, none], [], σ)) rfl ?_
  exact hrec86 _ _ _ _ _ _ _ hf
def fX7_findLearned_J238 (x1 : Int32) (x4 : Int32) (x5 : Int64) (x9 : Int32) (x11 : Int32) (s0 : Int64) (rec86 : (Int64 × Int64 × Int32 × Int32 × Int32 × Sg) → Option (Int32 × Sg)) (σ : Sg) : Option (Int32 × Sg) :=
  fX7_findLearned_J243 x1 x4 x5 s0 x9 1 x11 rec86 σ
set_option maxHeartbeats 1500000 in
theorem fX7_findLearned_J238_ok (x1 : Int32) (x4 : Int32) (x5 : Int64) (x9 : Int32) (x11 : Int32) (s0 : Int64) (rec86 : (Int64 × Int64 × Int32 × Int32 × Int32 × Sg) → Option (Int32 × Sg)) (σ : Sg) (hrec86 : ∀ (y5 : Int64) (y7 : Int64) (y9 : Int32) (y10 : Int32) (y11 : Int32) (τ : Sg) (r : (Int32 × Sg)), rec86 (y5, y7, y9, y10, y11, τ) = some r → Go true 8 iX7_findLearned (86, [some (.ref 60), some (.int x1), none, none, some (.int x4), some (.long y5), none, some (.long y7), none, some (.int y9), some (.int y10), some (.int y11), none, none], [], τ) (.inl (some (.int (r).1)), (r).2)) (r : (Int32 × Sg)) (hf : fX7_findLearned_J238 x1 x4 x5 x9 x11 s0 rec86 σ = some r) : Go true 8 iX7_findLearned (238, [some (.ref 60), some (.int x1), none, none, some (.int x4), some (.long x5), none, none, none, some (.int x9), none, some (.int x11), none, none], [.long s0], σ) (.inl (some (.int (r).1)), (r).2) := by
  unfold fX7_findLearned_J238 at hf
  refine go_n 3 (f := (243, [some (.ref 60), some (.int x1), none, none, some (.int x4), some (.long x5), none, some (.long s0), none, some (.int x9), some (.int 1), some (.int x11), none, none], [], σ)) rfl ?_
  exact fX7_findLearned_J243_ok _ _ _ _ _ _ _ _ _ hrec86 _ hf
def fX7_findLearned_J226 (x1 : Int32) (x4 : Int32) (x5 : Int64) (x9 : Int32) (x11 : Int32) (x13 : Int32) (rec86 : (Int64 × Int64 × Int32 × Int32 × Int32 × Sg) → Option (Int32 × Sg)) (σ : Sg) : Option (Int32 × Sg) :=
  if inb x13 160 then fX7_findLearned_J238 x1 x4 x5 x9 x11 (gl σ 78 x13.toNatClampNeg) rec86 σ else none
set_option maxHeartbeats 1500000 in
theorem fX7_findLearned_J226_ok (x1 : Int32) (x4 : Int32) (x5 : Int64) (x9 : Int32) (x11 : Int32) (x13 : Int32) (rec86 : (Int64 × Int64 × Int32 × Int32 × Int32 × Sg) → Option (Int32 × Sg)) (σ : Sg) (hrec86 : ∀ (y5 : Int64) (y7 : Int64) (y9 : Int32) (y10 : Int32) (y11 : Int32) (τ : Sg) (r : (Int32 × Sg)), rec86 (y5, y7, y9, y10, y11, τ) = some r → Go true 8 iX7_findLearned (86, [some (.ref 60), some (.int x1), none, none, some (.int x4), some (.long y5), none, some (.long y7), none, some (.int y9), some (.int y10), some (.int y11), none, none], [], τ) (.inl (some (.int (r).1)), (r).2)) (r : (Int32 × Sg)) (hf : fX7_findLearned_J226 x1 x4 x5 x9 x11 x13 rec86 σ = some r) : Go true 8 iX7_findLearned (226, [some (.ref 60), some (.int x1), none, none, some (.int x4), some (.long x5), none, none, none, some (.int x9), none, some (.int x11), none, some (.int x13)], [], σ) (.inl (some (.int (r).1)), (r).2) := by
  unfold fX7_findLearned_J226 at hf
  refine go_n 3 (f := (232, [some (.ref 60), some (.int x1), none, none, some (.int x4), some (.long x5), none, none, none, some (.int x9), none, some (.int x11), none, some (.int x13)], [.int x13, .ref 78], σ)) rfl ?_
  obtain ⟨h28, hf⟩ := grd hf
  refine go_lald rfl rfl rfl h28 ?_
  refine go_n 1 (f := (238, [some (.ref 60), some (.int x1), none, none, some (.int x4), some (.long x5), none, none, none, some (.int x9), none, some (.int x11), none, some (.int x13)], [.long (gl σ 78 x13.toNatClampNeg)], σ)) rfl ?_
  refine go_e (L1 := [some (.ref 60), some (.int x1), none, none, some (.int x4), some (.long x5), none, none, none, some (.int x9), none, some (.int x11), none, none]) rfl rfl ?_
  exact fX7_findLearned_J238_ok _ _ _ _ _ _ _ _ hrec86 _ hf
def fX7_findLearned_J190 (x1 : Int32) (x4 : Int32) (x5 : Int64) (x7 : Int64) (x9 : Int32) (x10 : Int32) (x11 : Int32) (x12 : Int32) (x13 : Int32) (rec86 : (Int64 × Int64 × Int32 × Int32 × Int32 × Sg) → Option (Int32 × Sg)) (σ : Sg) : Option (Int32 × Sg) :=
  if inb x13 160 then if (gi σ 76 x13.toNatClampNeg) < 2 then fX7_findLearned_J243 x1 x4 x5 x7 x9 x10 x11 rec86 σ else if x12 ≤ x4 then fX7_findLearned_J243 x1 x4 x5 x7 x9 x10 x11 rec86 σ else if x10 = 0 then fX7_findLearned_J226 x1 x4 x5 x9 x11 x13 rec86 σ else if inb x13 160 then if x7 ≤ (gl σ 78 x13.toNatClampNeg) then fX7_findLearned_J238 x1 x4 x5 x9 x11 x7 rec86 σ else fX7_findLearned_J226 x1 x4 x5 x9 x11 x13 rec86 σ else none else none
set_option maxHeartbeats 1500000 in
theorem fX7_findLearned_J190_ok (x1 : Int32) (x4 : Int32) (x5 : Int64) (x7 : Int64) (x9 : Int32) (x10 : Int32) (x11 : Int32) (x12 : Int32) (x13 : Int32) (rec86 : (Int64 × Int64 × Int32 × Int32 × Int32 × Sg) → Option (Int32 × Sg)) (σ : Sg) (hrec86 : ∀ (y5 : Int64) (y7 : Int64) (y9 : Int32) (y10 : Int32) (y11 : Int32) (τ : Sg) (r : (Int32 × Sg)), rec86 (y5, y7, y9, y10, y11, τ) = some r → Go true 8 iX7_findLearned (86, [some (.ref 60), some (.int x1), none, none, some (.int x4), some (.long y5), none, some (.long y7), none, some (.int y9), some (.int y10), some (.int y11), none, none], [], τ) (.inl (some (.int (r).1)), (r).2)) (r : (Int32 × Sg)) (hf : fX7_findLearned_J190 x1 x4 x5 x7 x9 x10 x11 x12 x13 rec86 σ = some r) : Go true 8 iX7_findLearned (190, [some (.ref 60), some (.int x1), none, none, some (.int x4), some (.long x5), none, some (.long x7), none, some (.int x9), some (.int x10), some (.int x11), some (.int x12), some (.int x13)], [], σ) (.inl (some (.int (r).1)), (r).2) := by
  unfold fX7_findLearned_J190 at hf
  refine go_n 3 (f := (196, [some (.ref 60), some (.int x1), none, none, some (.int x4), some (.long x5), none, some (.long x7), none, some (.int x9), some (.int x10), some (.int x11), some (.int x12), some (.int x13)], [.int x13, .ref 76], σ)) rfl ?_
  obtain ⟨h24, hf⟩ := grd hf
  refine go_iald rfl rfl rfl h24 ?_
  refine go_n 1 (f := (198, [some (.ref 60), some (.int x1), none, none, some (.int x4), some (.long x5), none, some (.long x7), none, some (.int x9), some (.int x10), some (.int x11), some (.int x12), some (.int x13)], [.int 2, .int (gi σ 76 x13.toNatClampNeg)], σ)) rfl ?_
  by_cases h25 : (gi σ 76 x13.toNatClampNeg) < 2
  · rw [if_pos h25] at hf
    refine go_it (t := 243) (f := 201) (L1 := [some (.ref 60), some (.int x1), none, none, some (.int x4), some (.long x5), none, some (.long x7), none, some (.int x9), some (.int x10), some (.int x11), some (.int x12), some (.int x13)]) (st1 := []) (σ1 := σ) rfl h25 ?_
    refine go_e (L1 := [some (.ref 60), some (.int x1), none, none, some (.int x4), some (.long x5), none, some (.long x7), none, some (.int x9), some (.int x10), some (.int x11), none, none]) rfl rfl ?_
    exact fX7_findLearned_J243_ok _ _ _ _ _ _ _ _ _ hrec86 _ hf
  · rw [if_neg h25] at hf
    refine go_if (t := 243) (f := 201) (L1 := [some (.ref 60), some (.int x1), none, none, some (.int x4), some (.long x5), none, some (.long x7), none, some (.int x9), some (.int x10), some (.int x11), some (.int x12), some (.int x13)]) (st1 := []) (σ1 := σ) rfl h25 ?_
    refine go_n 2 (f := (205, [some (.ref 60), some (.int x1), none, none, some (.int x4), some (.long x5), none, some (.long x7), none, some (.int x9), some (.int x10), some (.int x11), some (.int x12), some (.int x13)], [.int x4, .int x12], σ)) rfl ?_
    by_cases h26 : x12 ≤ x4
    · rw [if_pos h26] at hf
      refine go_it (t := 243) (f := 208) (L1 := [some (.ref 60), some (.int x1), none, none, some (.int x4), some (.long x5), none, some (.long x7), none, some (.int x9), some (.int x10), some (.int x11), some (.int x12), some (.int x13)]) (st1 := []) (σ1 := σ) rfl h26 ?_
      refine go_e (L1 := [some (.ref 60), some (.int x1), none, none, some (.int x4), some (.long x5), none, some (.long x7), none, some (.int x9), some (.int x10), some (.int x11), none, none]) rfl rfl ?_
      exact fX7_findLearned_J243_ok _ _ _ _ _ _ _ _ _ hrec86 _ hf
    · rw [if_neg h26] at hf
      refine go_if (t := 243) (f := 208) (L1 := [some (.ref 60), some (.int x1), none, none, some (.int x4), some (.long x5), none, some (.long x7), none, some (.int x9), some (.int x10), some (.int x11), some (.int x12), some (.int x13)]) (st1 := []) (σ1 := σ) rfl h26 ?_
      refine go_n 1 (f := (210, [some (.ref 60), some (.int x1), none, none, some (.int x4), some (.long x5), none, some (.long x7), none, some (.int x9), some (.int x10), some (.int x11), some (.int x12), some (.int x13)], [.int x10], σ)) rfl ?_
      by_cases h27 : x10 = 0
      · rw [if_pos h27] at hf
        refine go_it (t := 226) (f := 213) (L1 := [some (.ref 60), some (.int x1), none, none, some (.int x4), some (.long x5), none, some (.long x7), none, some (.int x9), some (.int x10), some (.int x11), some (.int x12), some (.int x13)]) (st1 := []) (σ1 := σ) rfl h27 ?_
        refine go_e (L1 := [some (.ref 60), some (.int x1), none, none, some (.int x4), some (.long x5), none, none, none, some (.int x9), none, some (.int x11), none, some (.int x13)]) rfl rfl ?_
        exact fX7_findLearned_J226_ok _ _ _ _ _ _ _ _ hrec86 _ hf
      · rw [if_neg h27] at hf
        refine go_if (t := 226) (f := 213) (L1 := [some (.ref 60), some (.int x1), none, none, some (.int x4), some (.long x5), none, some (.long x7), none, some (.int x9), some (.int x10), some (.int x11), some (.int x12), some (.int x13)]) (st1 := []) (σ1 := σ) rfl h27 ?_
        refine go_n 3 (f := (219, [some (.ref 60), some (.int x1), none, none, some (.int x4), some (.long x5), none, some (.long x7), none, some (.int x9), some (.int x10), some (.int x11), some (.int x12), some (.int x13)], [.int x13, .ref 78], σ)) rfl ?_
        obtain ⟨h29, hf⟩ := grd hf
        refine go_lald rfl rfl rfl h29 ?_
        refine go_n 2 (f := (223, [some (.ref 60), some (.int x1), none, none, some (.int x4), some (.long x5), none, some (.long x7), none, some (.int x9), some (.int x10), some (.int x11), some (.int x12), some (.int x13)], [.int (lg_cmp (gl σ 78 x13.toNatClampNeg) x7)], σ)) rfl ?_
        by_cases h30 : x7 ≤ (gl σ 78 x13.toNatClampNeg)
        · rw [if_pos h30] at hf
          refine go_it (t := 236) (f := 226) (L1 := [some (.ref 60), some (.int x1), none, none, some (.int x4), some (.long x5), none, some (.long x7), none, some (.int x9), some (.int x10), some (.int x11), some (.int x12), some (.int x13)]) (st1 := []) (σ1 := σ) rfl ((lgc_ge (gl σ 78 x13.toNatClampNeg) x7).mpr h30) ?_
          refine go_n 1 (f := (238, [some (.ref 60), some (.int x1), none, none, some (.int x4), some (.long x5), none, some (.long x7), none, some (.int x9), some (.int x10), some (.int x11), some (.int x12), some (.int x13)], [.long x7], σ)) rfl ?_
          refine go_e (L1 := [some (.ref 60), some (.int x1), none, none, some (.int x4), some (.long x5), none, none, none, some (.int x9), none, some (.int x11), none, none]) rfl rfl ?_
          exact fX7_findLearned_J238_ok _ _ _ _ _ _ _ _ hrec86 _ hf
        · rw [if_neg h30] at hf
          refine go_if (t := 236) (f := 226) (L1 := [some (.ref 60), some (.int x1), none, none, some (.int x4), some (.long x5), none, some (.long x7), none, some (.int x9), some (.int x10), some (.int x11), some (.int x12), some (.int x13)]) (st1 := []) (σ1 := σ) rfl (fun q => h30 ((lgc_ge (gl σ 78 x13.toNatClampNeg) x7).mp q)) ?_
          refine go_e (L1 := [some (.ref 60), some (.int x1), none, none, some (.int x4), some (.long x5), none, none, none, some (.int x9), none, some (.int x11), none, some (.int x13)]) rfl rfl ?_
          exact fX7_findLearned_J226_ok _ _ _ _ _ _ _ _ hrec86 _ hf
def fX7_findLearned_J185 (x1 : Int32) (x4 : Int32) (x7 : Int64) (x10 : Int32) (x11 : Int32) (x12 : Int32) (x13 : Int32) (s0 : Int64) (rec86 : (Int64 × Int64 × Int32 × Int32 × Int32 × Sg) → Option (Int32 × Sg)) (σ : Sg) : Option (Int32 × Sg) :=
  fX7_findLearned_J190 x1 x4 s0 x7 1 x10 x11 x12 x13 rec86 σ
set_option maxHeartbeats 1500000 in
theorem fX7_findLearned_J185_ok (x1 : Int32) (x4 : Int32) (x7 : Int64) (x10 : Int32) (x11 : Int32) (x12 : Int32) (x13 : Int32) (s0 : Int64) (rec86 : (Int64 × Int64 × Int32 × Int32 × Int32 × Sg) → Option (Int32 × Sg)) (σ : Sg) (hrec86 : ∀ (y5 : Int64) (y7 : Int64) (y9 : Int32) (y10 : Int32) (y11 : Int32) (τ : Sg) (r : (Int32 × Sg)), rec86 (y5, y7, y9, y10, y11, τ) = some r → Go true 8 iX7_findLearned (86, [some (.ref 60), some (.int x1), none, none, some (.int x4), some (.long y5), none, some (.long y7), none, some (.int y9), some (.int y10), some (.int y11), none, none], [], τ) (.inl (some (.int (r).1)), (r).2)) (r : (Int32 × Sg)) (hf : fX7_findLearned_J185 x1 x4 x7 x10 x11 x12 x13 s0 rec86 σ = some r) : Go true 8 iX7_findLearned (185, [some (.ref 60), some (.int x1), none, none, some (.int x4), none, none, some (.long x7), none, none, some (.int x10), some (.int x11), some (.int x12), some (.int x13)], [.long s0], σ) (.inl (some (.int (r).1)), (r).2) := by
  unfold fX7_findLearned_J185 at hf
  refine go_n 3 (f := (190, [some (.ref 60), some (.int x1), none, none, some (.int x4), some (.long s0), none, some (.long x7), none, some (.int 1), some (.int x10), some (.int x11), some (.int x12), some (.int x13)], [], σ)) rfl ?_
  exact fX7_findLearned_J190_ok _ _ _ _ _ _ _ _ _ _ _ hrec86 _ hf
def fX7_findLearned_J173 (x1 : Int32) (x4 : Int32) (x7 : Int64) (x10 : Int32) (x11 : Int32) (x12 : Int32) (x13 : Int32) (rec86 : (Int64 × Int64 × Int32 × Int32 × Int32 × Sg) → Option (Int32 × Sg)) (σ : Sg) : Option (Int32 × Sg) :=
  if inb x13 160 then fX7_findLearned_J185 x1 x4 x7 x10 x11 x12 x13 (gl σ 77 x13.toNatClampNeg) rec86 σ else none
set_option maxHeartbeats 1500000 in
theorem fX7_findLearned_J173_ok (x1 : Int32) (x4 : Int32) (x7 : Int64) (x10 : Int32) (x11 : Int32) (x12 : Int32) (x13 : Int32) (rec86 : (Int64 × Int64 × Int32 × Int32 × Int32 × Sg) → Option (Int32 × Sg)) (σ : Sg) (hrec86 : ∀ (y5 : Int64) (y7 : Int64) (y9 : Int32) (y10 : Int32) (y11 : Int32) (τ : Sg) (r : (Int32 × Sg)), rec86 (y5, y7, y9, y10, y11, τ) = some r → Go true 8 iX7_findLearned (86, [some (.ref 60), some (.int x1), none, none, some (.int x4), some (.long y5), none, some (.long y7), none, some (.int y9), some (.int y10), some (.int y11), none, none], [], τ) (.inl (some (.int (r).1)), (r).2)) (r : (Int32 × Sg)) (hf : fX7_findLearned_J173 x1 x4 x7 x10 x11 x12 x13 rec86 σ = some r) : Go true 8 iX7_findLearned (173, [some (.ref 60), some (.int x1), none, none, some (.int x4), none, none, some (.long x7), none, none, some (.int x10), some (.int x11), some (.int x12), some (.int x13)], [], σ) (.inl (some (.int (r).1)), (r).2) := by
  unfold fX7_findLearned_J173 at hf
  refine go_n 3 (f := (179, [some (.ref 60), some (.int x1), none, none, some (.int x4), none, none, some (.long x7), none, none, some (.int x10), some (.int x11), some (.int x12), some (.int x13)], [.int x13, .ref 77], σ)) rfl ?_
  obtain ⟨h33, hf⟩ := grd hf
  refine go_lald rfl rfl rfl h33 ?_
  refine go_n 1 (f := (185, [some (.ref 60), some (.int x1), none, none, some (.int x4), none, none, some (.long x7), none, none, some (.int x10), some (.int x11), some (.int x12), some (.int x13)], [.long (gl σ 77 x13.toNatClampNeg)], σ)) rfl ?_
  exact fX7_findLearned_J185_ok _ _ _ _ _ _ _ _ _ _ hrec86 _ hf
def fX7_findLearned_L86 (x1 : Int32) (x4 : Int32)  (rec86 : (Int64 × Int64 × Int32 × Int32 × Int32 × Sg) → Option (Int32 × Sg)) (s : Int64 × Int64 × Int32 × Int32 × Int32 × Sg) : Option (Int32 × Sg) :=
  match s with
  | (x5, x7, x9, x10, x11, σ) => if 20 ≤ x11 then fX7_findLearned_J249 x4 x5 x7  σ else if x4 = (-1) then fX7_findLearned_J249 x4 x5 x7  σ else (fX7_ordered x1 x11 σ).bind fun q16 => if q16 = (-1) then fX7_findLearned_J243 x1 x4 x5 x7 x9 x10 x11 rec86 σ else if q16 = x4 then fX7_findLearned_J243 x1 x4 x5 x7 x9 x10 x11 rec86 σ else (fX7_learn x1 x11 σ).bind fun q20 => if inb ((20 * x1) + x11) 160 then if (gi q20 76 ((20 * x1) + x11).toNatClampNeg) < 2 then fX7_findLearned_J190 x1 x4 x5 x7 x9 x10 x11 q16 ((20 * x1) + x11) rec86 q20 else if x4 ≤ q16 then fX7_findLearned_J190 x1 x4 x5 x7 x9 x10 x11 q16 ((20 * x1) + x11) rec86 q20 else if x9 = 0 then fX7_findLearned_J173 x1 x4 x7 x10 x11 q16 ((20 * x1) + x11) rec86 q20 else if inb ((20 * x1) + x11) 160 then if (gl q20 77 ((20 * x1) + x11).toNatClampNeg) ≤ x5 then fX7_findLearned_J185 x1 x4 x7 x10 x11 q16 ((20 * x1) + x11) x5 rec86 q20 else fX7_findLearned_J173 x1 x4 x7 x10 x11 q16 ((20 * x1) + x11) rec86 q20 else none else none
set_option maxHeartbeats 1500000 in
theorem fX7_findLearned_L86_ok (x1 : Int32) (x4 : Int32)   : ∀ (n : Nat) (x5 : Int64) (x7 : Int64) (x9 : Int32) (x10 : Int32) (x11 : Int32) (σ : Sg) (r : (Int32 × Sg)), lp (fX7_findLearned_L86 x1 x4 ) n (x5, x7, x9, x10, x11, σ) = some r → Go true 8 iX7_findLearned (86, [some (.ref 60), some (.int x1), none, none, some (.int x4), some (.long x5), none, some (.long x7), none, some (.int x9), some (.int x10), some (.int x11), none, none], [], σ) (.inl (some (.int (r).1)), (r).2) := by
  intro n
  induction n with
  | zero => intro x5 x7 x9 x10 x11 σ r hf; cases hf
  | succ n ih =>
    intro x5 x7 x9 x10 x11 σ r hf
    have hf : fX7_findLearned_L86 x1 x4  (lp (fX7_findLearned_L86 x1 x4 ) n) (x5, x7, x9, x10, x11, σ) = some r := hf
    have hrec86 := ih
    generalize lp (fX7_findLearned_L86 x1 x4 ) n = rec86 at hf hrec86
    unfold fX7_findLearned_L86 at hf
    dsimp only at hf
    refine go_n 2 (f := (90, [some (.ref 60), some (.int x1), none, none, some (.int x4), some (.long x5), none, some (.long x7), none, some (.int x9), some (.int x10), some (.int x11), none, none], [.int 20, .int x11], σ)) rfl ?_
    by_cases h10 : 20 ≤ x11
    · rw [if_pos h10] at hf
      refine go_it (t := 249) (f := 93) (L1 := [some (.ref 60), some (.int x1), none, none, some (.int x4), some (.long x5), none, some (.long x7), none, some (.int x9), some (.int x10), some (.int x11), none, none]) (st1 := []) (σ1 := σ) rfl h10 ?_
      refine go_e (L1 := [some (.ref 60), none, none, none, some (.int x4), some (.long x5), none, some (.long x7), none, none, none, none, none, none]) rfl rfl ?_
      exact fX7_findLearned_J249_ok _ _ _  _  _ hf
    · rw [if_neg h10] at hf
      refine go_if (t := 249) (f := 93) (L1 := [some (.ref 60), some (.int x1), none, none, some (.int x4), some (.long x5), none, some (.long x7), none, some (.int x9), some (.int x10), some (.int x11), none, none]) (st1 := []) (σ1 := σ) rfl h10 ?_
      refine go_n 2 (f := (96, [some (.ref 60), some (.int x1), none, none, some (.int x4), some (.long x5), none, some (.long x7), none, some (.int x9), some (.int x10), some (.int x11), none, none], [.int (-1), .int x4], σ)) rfl ?_
      by_cases h15 : x4 = (-1)
      · rw [if_pos h15] at hf
        refine go_it (t := 249) (f := 99) (L1 := [some (.ref 60), some (.int x1), none, none, some (.int x4), some (.long x5), none, some (.long x7), none, some (.int x9), some (.int x10), some (.int x11), none, none]) (st1 := []) (σ1 := σ) rfl h15 ?_
        refine go_e (L1 := [some (.ref 60), none, none, none, some (.int x4), some (.long x5), none, some (.long x7), none, none, none, none, none, none]) rfl rfl ?_
        exact fX7_findLearned_J249_ok _ _ _  _  _ hf
      · rw [if_neg h15] at hf
        refine go_if (t := 249) (f := 99) (L1 := [some (.ref 60), some (.int x1), none, none, some (.int x4), some (.long x5), none, some (.long x7), none, some (.int x9), some (.int x10), some (.int x11), none, none]) (st1 := []) (σ1 := σ) rfl h15 ?_
        refine go_n 3 (f := (103, [some (.ref 60), some (.int x1), none, none, some (.int x4), some (.long x5), none, some (.long x7), none, some (.int x9), some (.int x10), some (.int x11), none, none], [.int x11, .int x1, .ref 60], σ)) rfl ?_
        obtain ⟨q16, h17, hf⟩ := bnd hf
        refine go_c (mid := 12133) (args := [.ref 60, .int x1, .int x11]) (pc := 106) (L := [some (.ref 60), some (.int x1), none, none, some (.int x4), some (.long x5), none, some (.long x7), none, some (.int x9), some (.int x10), some (.int x11), none, none]) (st := []) (σ := σ) rfl ((fX7_ordered_ok _ _ _ q16 h17).deep (Nat.le_of_ble_eq_true rfl)) ?_
        refine go_n 3 (f := (111, [some (.ref 60), some (.int x1), none, none, some (.int x4), some (.long x5), none, some (.long x7), none, some (.int x9), some (.int x10), some (.int x11), some (.int q16), none], [.int (-1), .int q16], σ)) rfl ?_
        by_cases h18 : q16 = (-1)
        · rw [if_pos h18] at hf
          refine go_it (t := 243) (f := 114) (L1 := [some (.ref 60), some (.int x1), none, none, some (.int x4), some (.long x5), none, some (.long x7), none, some (.int x9), some (.int x10), some (.int x11), some (.int q16), none]) (st1 := []) (σ1 := σ) rfl h18 ?_
          refine go_e (L1 := [some (.ref 60), some (.int x1), none, none, some (.int x4), some (.long x5), none, some (.long x7), none, some (.int x9), some (.int x10), some (.int x11), none, none]) rfl rfl ?_
          exact fX7_findLearned_J243_ok _ _ _ _ _ _ _ _ _ hrec86 _ hf
        · rw [if_neg h18] at hf
          refine go_if (t := 243) (f := 114) (L1 := [some (.ref 60), some (.int x1), none, none, some (.int x4), some (.long x5), none, some (.long x7), none, some (.int x9), some (.int x10), some (.int x11), some (.int q16), none]) (st1 := []) (σ1 := σ) rfl h18 ?_
          refine go_n 2 (f := (118, [some (.ref 60), some (.int x1), none, none, some (.int x4), some (.long x5), none, some (.long x7), none, some (.int x9), some (.int x10), some (.int x11), some (.int q16), none], [.int x4, .int q16], σ)) rfl ?_
          by_cases h19 : q16 = x4
          · rw [if_pos h19] at hf
            refine go_it (t := 243) (f := 121) (L1 := [some (.ref 60), some (.int x1), none, none, some (.int x4), some (.long x5), none, some (.long x7), none, some (.int x9), some (.int x10), some (.int x11), some (.int q16), none]) (st1 := []) (σ1 := σ) rfl h19 ?_
            refine go_e (L1 := [some (.ref 60), some (.int x1), none, none, some (.int x4), some (.long x5), none, some (.long x7), none, some (.int x9), some (.int x10), some (.int x11), none, none]) rfl rfl ?_
            exact fX7_findLearned_J243_ok _ _ _ _ _ _ _ _ _ hrec86 _ hf
          · rw [if_neg h19] at hf
            refine go_if (t := 243) (f := 121) (L1 := [some (.ref 60), some (.int x1), none, none, some (.int x4), some (.long x5), none, some (.long x7), none, some (.int x9), some (.int x10), some (.int x11), some (.int q16), none]) (st1 := []) (σ1 := σ) rfl h19 ?_
            refine go_n 3 (f := (125, [some (.ref 60), some (.int x1), none, none, some (.int x4), some (.long x5), none, some (.long x7), none, some (.int x9), some (.int x10), some (.int x11), some (.int q16), none], [.int x11, .int x1, .ref 60], σ)) rfl ?_
            obtain ⟨q20, h21, hf⟩ := bnd hf
            refine go_c (mid := 12128) (args := [.ref 60, .int x1, .int x11]) (pc := 128) (L := [some (.ref 60), some (.int x1), none, none, some (.int x4), some (.long x5), none, some (.long x7), none, some (.int x9), some (.int x10), some (.int x11), some (.int q16), none]) (st := []) (σ := σ) rfl ((fX7_learn_ok _ _ _ q20 h21).deep (Nat.le_of_ble_eq_true rfl)) ?_
            refine go_n 9 (f := (143, [some (.ref 60), some (.int x1), none, none, some (.int x4), some (.long x5), none, some (.long x7), none, some (.int x9), some (.int x10), some (.int x11), some (.int q16), some (.int ((20 * x1) + x11))], [.int ((20 * x1) + x11), .ref 76], q20)) rfl ?_
            obtain ⟨h22, hf⟩ := grd hf
            refine go_iald rfl rfl rfl h22 ?_
            refine go_n 1 (f := (145, [some (.ref 60), some (.int x1), none, none, some (.int x4), some (.long x5), none, some (.long x7), none, some (.int x9), some (.int x10), some (.int x11), some (.int q16), some (.int ((20 * x1) + x11))], [.int 2, .int (gi q20 76 ((20 * x1) + x11).toNatClampNeg)], q20)) rfl ?_
            by_cases h23 : (gi q20 76 ((20 * x1) + x11).toNatClampNeg) < 2
            · rw [if_pos h23] at hf
              refine go_it (t := 190) (f := 148) (L1 := [some (.ref 60), some (.int x1), none, none, some (.int x4), some (.long x5), none, some (.long x7), none, some (.int x9), some (.int x10), some (.int x11), some (.int q16), some (.int ((20 * x1) + x11))]) (st1 := []) (σ1 := q20) rfl h23 ?_
              exact fX7_findLearned_J190_ok _ _ _ _ _ _ _ _ _ _ _ hrec86 _ hf
            · rw [if_neg h23] at hf
              refine go_if (t := 190) (f := 148) (L1 := [some (.ref 60), some (.int x1), none, none, some (.int x4), some (.long x5), none, some (.long x7), none, some (.int x9), some (.int x10), some (.int x11), some (.int q16), some (.int ((20 * x1) + x11))]) (st1 := []) (σ1 := q20) rfl h23 ?_
              refine go_n 2 (f := (152, [some (.ref 60), some (.int x1), none, none, some (.int x4), some (.long x5), none, some (.long x7), none, some (.int x9), some (.int x10), some (.int x11), some (.int q16), some (.int ((20 * x1) + x11))], [.int x4, .int q16], q20)) rfl ?_
              by_cases h31 : x4 ≤ q16
              · rw [if_pos h31] at hf
                refine go_it (t := 190) (f := 155) (L1 := [some (.ref 60), some (.int x1), none, none, some (.int x4), some (.long x5), none, some (.long x7), none, some (.int x9), some (.int x10), some (.int x11), some (.int q16), some (.int ((20 * x1) + x11))]) (st1 := []) (σ1 := q20) rfl h31 ?_
                exact fX7_findLearned_J190_ok _ _ _ _ _ _ _ _ _ _ _ hrec86 _ hf
              · rw [if_neg h31] at hf
                refine go_if (t := 190) (f := 155) (L1 := [some (.ref 60), some (.int x1), none, none, some (.int x4), some (.long x5), none, some (.long x7), none, some (.int x9), some (.int x10), some (.int x11), some (.int q16), some (.int ((20 * x1) + x11))]) (st1 := []) (σ1 := q20) rfl h31 ?_
                refine go_n 1 (f := (157, [some (.ref 60), some (.int x1), none, none, some (.int x4), some (.long x5), none, some (.long x7), none, some (.int x9), some (.int x10), some (.int x11), some (.int q16), some (.int ((20 * x1) + x11))], [.int x9], q20)) rfl ?_
                by_cases h32 : x9 = 0
                · rw [if_pos h32] at hf
                  refine go_it (t := 173) (f := 160) (L1 := [some (.ref 60), some (.int x1), none, none, some (.int x4), some (.long x5), none, some (.long x7), none, some (.int x9), some (.int x10), some (.int x11), some (.int q16), some (.int ((20 * x1) + x11))]) (st1 := []) (σ1 := q20) rfl h32 ?_
                  refine go_e (L1 := [some (.ref 60), some (.int x1), none, none, some (.int x4), none, none, some (.long x7), none, none, some (.int x10), some (.int x11), some (.int q16), some (.int ((20 * x1) + x11))]) rfl rfl ?_
                  exact fX7_findLearned_J173_ok _ _ _ _ _ _ _ _ _ hrec86 _ hf
                · rw [if_neg h32] at hf
                  refine go_if (t := 173) (f := 160) (L1 := [some (.ref 60), some (.int x1), none, none, some (.int x4), some (.long x5), none, some (.long x7), none, some (.int x9), some (.int x10), some (.int x11), some (.int q16), some (.int ((20 * x1) + x11))]) (st1 := []) (σ1 := q20) rfl h32 ?_
                  refine go_n 3 (f := (166, [some (.ref 60), some (.int x1), none, none, some (.int x4), some (.long x5), none, some (.long x7), none, some (.int x9), some (.int x10), some (.int x11), some (.int q16), some (.int ((20 * x1) + x11))], [.int ((20 * x1) + x11), .ref 77], q20)) rfl ?_
                  obtain ⟨h34, hf⟩ := grd hf
                  refine go_lald rfl rfl rfl h34 ?_
                  refine go_n 2 (f := (170, [some (.ref 60), some (.int x1), none, none, some (.int x4), some (.long x5), none, some (.long x7), none, some (.int x9), some (.int x10), some (.int x11), some (.int q16), some (.int ((20 * x1) + x11))], [.int (lg_cmp (gl q20 77 ((20 * x1) + x11).toNatClampNeg) x5)], q20)) rfl ?_
                  by_cases h35 : (gl q20 77 ((20 * x1) + x11).toNatClampNeg) ≤ x5
                  · rw [if_pos h35] at hf
                    refine go_it (t := 183) (f := 173) (L1 := [some (.ref 60), some (.int x1), none, none, some (.int x4), some (.long x5), none, some (.long x7), none, some (.int x9), some (.int x10), some (.int x11), some (.int q16), some (.int ((20 * x1) + x11))]) (st1 := []) (σ1 := q20) rfl ((lgc_le (gl q20 77 ((20 * x1) + x11).toNatClampNeg) x5).mpr h35) ?_
                    refine go_n 1 (f := (185, [some (.ref 60), some (.int x1), none, none, some (.int x4), some (.long x5), none, some (.long x7), none, some (.int x9), some (.int x10), some (.int x11), some (.int q16), some (.int ((20 * x1) + x11))], [.long x5], q20)) rfl ?_
                    refine go_e (L1 := [some (.ref 60), some (.int x1), none, none, some (.int x4), none, none, some (.long x7), none, none, some (.int x10), some (.int x11), some (.int q16), some (.int ((20 * x1) + x11))]) rfl rfl ?_
                    exact fX7_findLearned_J185_ok _ _ _ _ _ _ _ _ _ _ hrec86 _ hf
                  · rw [if_neg h35] at hf
                    refine go_if (t := 183) (f := 173) (L1 := [some (.ref 60), some (.int x1), none, none, some (.int x4), some (.long x5), none, some (.long x7), none, some (.int x9), some (.int x10), some (.int x11), some (.int q16), some (.int ((20 * x1) + x11))]) (st1 := []) (σ1 := q20) rfl (fun q => h35 ((lgc_le (gl q20 77 ((20 * x1) + x11).toNatClampNeg) x5).mp q)) ?_
                    refine go_e (L1 := [some (.ref 60), some (.int x1), none, none, some (.int x4), none, none, some (.long x7), none, none, some (.int x10), some (.int x11), some (.int q16), some (.int ((20 * x1) + x11))]) rfl rfl ?_
                    exact fX7_findLearned_J173_ok _ _ _ _ _ _ _ _ _ hrec86 _ hf
def fX7_findLearned (x1 : Int32) (x2 : Int32) (σ : Sg) : Option (Int32 × Sg) :=
  (fX7_in x2.toInt64 0 19).bind fun q1 => if q1 ≠ 0 then (fX7_learn x1 x2 σ).bind fun q4 => if inb ((20 * x1) + x2) 160 then if (gi q4 76 ((20 * x1) + x2).toNatClampNeg) < 2 then (fX7_ordered x1 x2 q4).bind fun q8 => lp (fX7_findLearned_L86 x1 q8 ) N0 ((-1000), 1000, 0, 0, 0, q4) else if inb ((20 * x1) + x2) 160 then if inb ((20 * x1) + x2) 160 then some (1, (wl (wl q4 60 48 (gl q4 77 ((20 * x1) + x2).toNatClampNeg)) 60 49 (gl q4 78 ((20 * x1) + x2).toNatClampNeg))) else none else none else none else some (0, σ)
set_option maxHeartbeats 1500000 in
theorem fX7_findLearned_ok (x1 : Int32) (x2 : Int32) (σ : Sg) (r : (Int32 × Sg)) (hf : fX7_findLearned x1 x2 σ = some r) : Cl true 8 12127 [.ref 60, .int x1, .int x2] σ (.inl (some (.int (r).1)), (r).2) := by
  refine ⟨iX7_findLearned, rfl, Nat.le_of_ble_eq_true rfl, Nat.le_of_ble_eq_true rfl, ?_⟩
  show Go true 8 iX7_findLearned (0, [some (.ref 60), some (.int x1), some (.int x2), none, none, none, none, none, none, none, none, none, none, none], [], σ) (.inl (some (.int (r).1)), (r).2)
  unfold fX7_findLearned at hf
  refine go_n 4 (f := (6, [some (.ref 60), some (.int x1), some (.int x2), none, none, none, none, none, none, none, none, none, none, none], [.long 19, .long 0, .long x2.toInt64], σ)) rfl ?_
  obtain ⟨q1, h2, hf⟩ := bnd hf
  refine go_c (mid := 12034) (args := [.long x2.toInt64, .long 0, .long 19]) (pc := 9) (L := [some (.ref 60), some (.int x1), some (.int x2), none, none, none, none, none, none, none, none, none, none, none]) (st := []) (σ := σ) rfl ((fX7_in_ok _ _ _ _ q1 h2).deep (Nat.le_of_ble_eq_true rfl)) ?_
  by_cases h3 : q1 ≠ 0
  · rw [if_pos h3] at hf
    refine go_it (t := 14) (f := 12) (L1 := [some (.ref 60), some (.int x1), some (.int x2), none, none, none, none, none, none, none, none, none, none, none]) (st1 := []) (σ1 := σ) rfl h3 ?_
    refine go_n 3 (f := (17, [some (.ref 60), some (.int x1), some (.int x2), none, none, none, none, none, none, none, none, none, none, none], [.int x2, .int x1, .ref 60], σ)) rfl ?_
    obtain ⟨q4, h5, hf⟩ := bnd hf
    refine go_c (mid := 12128) (args := [.ref 60, .int x1, .int x2]) (pc := 20) (L := [some (.ref 60), some (.int x1), some (.int x2), none, none, none, none, none, none, none, none, none, none, none]) (st := []) (σ := σ) rfl ((fX7_learn_ok _ _ _ q4 h5).deep (Nat.le_of_ble_eq_true rfl)) ?_
    refine go_n 9 (f := (32, [some (.ref 60), some (.int x1), some (.int x2), some (.int ((20 * x1) + x2)), none, none, none, none, none, none, none, none, none, none], [.int ((20 * x1) + x2), .ref 76], q4)) rfl ?_
    obtain ⟨h6, hf⟩ := grd hf
    refine go_iald rfl rfl rfl h6 ?_
    refine go_n 1 (f := (34, [some (.ref 60), some (.int x1), some (.int x2), some (.int ((20 * x1) + x2)), none, none, none, none, none, none, none, none, none, none], [.int 2, .int (gi q4 76 ((20 * x1) + x2).toNatClampNeg)], q4)) rfl ?_
    by_cases h7 : (gi q4 76 ((20 * x1) + x2).toNatClampNeg) < 2
    · rw [if_pos h7] at hf
      refine go_it (t := 59) (f := 37) (L1 := [some (.ref 60), some (.int x1), some (.int x2), some (.int ((20 * x1) + x2)), none, none, none, none, none, none, none, none, none, none]) (st1 := []) (σ1 := q4) rfl h7 ?_
      refine go_n 3 (f := (62, [some (.ref 60), some (.int x1), some (.int x2), some (.int ((20 * x1) + x2)), none, none, none, none, none, none, none, none, none, none], [.int x2, .int x1, .ref 60], q4)) rfl ?_
      obtain ⟨q8, h9, hf⟩ := bnd hf
      refine go_c (mid := 12133) (args := [.ref 60, .int x1, .int x2]) (pc := 65) (L := [some (.ref 60), some (.int x1), some (.int x2), some (.int ((20 * x1) + x2)), none, none, none, none, none, none, none, none, none, none]) (st := []) (σ := q4) rfl ((fX7_ordered_ok _ _ _ q8 h9).deep (Nat.le_of_ble_eq_true rfl)) ?_
      refine go_n 3 (f := (72, [some (.ref 60), some (.int x1), some (.int x2), some (.int ((20 * x1) + x2)), some (.int q8), some (.long (-1000)), none, none, none, none, none, none, none, none], [], q4)) rfl ?_
      refine go_n 4 (f := (80, [some (.ref 60), some (.int x1), some (.int x2), some (.int ((20 * x1) + x2)), some (.int q8), some (.long (-1000)), none, some (.long 1000), none, some (.int 0), none, none, none, none], [], q4)) rfl ?_
      refine go_n 4 (f := (86, [some (.ref 60), some (.int x1), some (.int x2), some (.int ((20 * x1) + x2)), some (.int q8), some (.long (-1000)), none, some (.long 1000), none, some (.int 0), some (.int 0), some (.int 0), none, none], [], q4)) rfl ?_
      refine go_e (L1 := [some (.ref 60), some (.int x1), none, none, some (.int q8), some (.long (-1000)), none, some (.long 1000), none, some (.int 0), some (.int 0), some (.int 0), none, none]) rfl rfl ?_
      exact fX7_findLearned_L86_ok _ _   N0 _ _ _ _ _ _ _ hf
    · rw [if_neg h7] at hf
      refine go_if (t := 59) (f := 37) (L1 := [some (.ref 60), some (.int x1), some (.int x2), some (.int ((20 * x1) + x2)), none, none, none, none, none, none, none, none, none, none]) (st1 := []) (σ1 := q4) rfl h7 ?_
      refine go_n 4 (f := (43, [some (.ref 60), some (.int x1), some (.int x2), some (.int ((20 * x1) + x2)), none, none, none, none, none, none, none, none, none, none], [.int ((20 * x1) + x2), .ref 77, .ref 60], q4)) rfl ?_
      obtain ⟨h36, hf⟩ := grd hf
      refine go_lald rfl rfl rfl h36 ?_
      refine go_n 5 (f := (53, [some (.ref 60), some (.int x1), some (.int x2), some (.int ((20 * x1) + x2)), none, none, none, none, none, none, none, none, none, none], [.int ((20 * x1) + x2), .ref 78, .ref 60], (wl q4 60 48 (gl q4 77 ((20 * x1) + x2).toNatClampNeg)))) rfl ?_
      obtain ⟨h37, hf⟩ := grd hf
      refine go_lald rfl rfl rfl h37 ?_
      refine go_n 2 (f := (58, [some (.ref 60), some (.int x1), some (.int x2), some (.int ((20 * x1) + x2)), none, none, none, none, none, none, none, none, none, none], [.int 1], (wl (wl q4 60 48 (gl q4 77 ((20 * x1) + x2).toNatClampNeg)) 60 49 (gl q4 78 ((20 * x1) + x2).toNatClampNeg)))) rfl ?_
      cases hf
      exact go_r rfl
  · rw [if_neg h3] at hf
    refine go_if (t := 14) (f := 12) (L1 := [some (.ref 60), some (.int x1), some (.int x2), none, none, none, none, none, none, none, none, none, none, none]) (st1 := []) (σ1 := σ) rfl h3 ?_
    refine go_n 1 (f := (13, [some (.ref 60), some (.int x1), some (.int x2), none, none, none, none, none, none, none, none, none, none, none], [.int 0], σ)) rfl ?_
    cases hf
    exact go_r rfl
/-! OldWeatherModel.learned(IIII)I -/
def fX7_learned_J229 (x5 : Int32) (x6 : Int32) (x7 : Int32) (x9 : Int32) (s0 : Int32) (rec130 : (Int32 × Int32) → Option (Int32 × Sg)) (rec148 : (Int32 × Int32 × Int32) → Option (Int32 × Sg)) (σ : Sg) : Option (Int32 × Sg) :=
  rec148 (x7, s0, (x9 + 1))
set_option maxHeartbeats 1500000 in
theorem fX7_learned_J229_ok (x5 : Int32) (x6 : Int32) (x7 : Int32) (x9 : Int32) (s0 : Int32) (rec130 : (Int32 × Int32) → Option (Int32 × Sg)) (rec148 : (Int32 × Int32 × Int32) → Option (Int32 × Sg)) (σ : Sg) (hrec130 : ∀ (y5 : Int32) (y6 : Int32) (r : (Int32 × Sg)), rec130 (y5, y6) = some r → Go true 9 iX7_learned (130, [some (.ref 60), none, none, none, none, some (.int y5), some (.int y6), none, none, none], [], σ) (.inl (some (.int (r).1)), (r).2)) (hrec148 : ∀ (y7 : Int32) (y8 : Int32) (y9 : Int32) (r : (Int32 × Sg)), rec148 (y7, y8, y9) = some r → Go true 9 iX7_learned (148, [some (.ref 60), none, none, none, none, some (.int x5), some (.int x6), some (.int y7), some (.int y8), some (.int y9)], [], σ) (.inl (some (.int (r).1)), (r).2)) (r : (Int32 × Sg)) (hf : fX7_learned_J229 x5 x6 x7 x9 s0 rec130 rec148 σ = some r) : Go true 9 iX7_learned (229, [some (.ref 60), none, none, none, none, some (.int x5), some (.int x6), some (.int x7), none, some (.int x9)], [.int s0], σ) (.inl (some (.int (r).1)), (r).2) := by
  unfold fX7_learned_J229 at hf
  refine go_n 2 (f := (234, [some (.ref 60), none, none, none, none, some (.int x5), some (.int x6), some (.int x7), some (.int s0), some (.int (x9 + 1))], [], σ)) rfl ?_
  refine go_n 1 (f := (148, [some (.ref 60), none, none, none, none, some (.int x5), some (.int x6), some (.int x7), some (.int s0), some (.int (x9 + 1))], [], σ)) rfl ?_
  exact hrec148 _ _ _ _ hf
def fX7_learned_J224 (x5 : Int32) (x6 : Int32) (x7 : Int32) (x9 : Int32) (rec130 : (Int32 × Int32) → Option (Int32 × Sg)) (rec148 : (Int32 × Int32 × Int32) → Option (Int32 × Sg)) (σ : Sg) : Option (Int32 × Sg) :=
  fX7_learned_J229 x5 x6 x7 x9 1 rec130 rec148 σ
set_option maxHeartbeats 1500000 in
theorem fX7_learned_J224_ok (x5 : Int32) (x6 : Int32) (x7 : Int32) (x9 : Int32) (rec130 : (Int32 × Int32) → Option (Int32 × Sg)) (rec148 : (Int32 × Int32 × Int32) → Option (Int32 × Sg)) (σ : Sg) (hrec130 : ∀ (y5 : Int32) (y6 : Int32) (r : (Int32 × Sg)), rec130 (y5, y6) = some r → Go true 9 iX7_learned (130, [some (.ref 60), none, none, none, none, some (.int y5), some (.int y6), none, none, none], [], σ) (.inl (some (.int (r).1)), (r).2)) (hrec148 : ∀ (y7 : Int32) (y8 : Int32) (y9 : Int32) (r : (Int32 × Sg)), rec148 (y7, y8, y9) = some r → Go true 9 iX7_learned (148, [some (.ref 60), none, none, none, none, some (.int x5), some (.int x6), some (.int y7), some (.int y8), some (.int y9)], [], σ) (.inl (some (.int (r).1)), (r).2)) (r : (Int32 × Sg)) (hf : fX7_learned_J224 x5 x6 x7 x9 rec130 rec148 σ = some r) : Go true 9 iX7_learned (224, [some (.ref 60), none, none, none, none, some (.int x5), some (.int x6), some (.int x7), none, some (.int x9)], [], σ) (.inl (some (.int (r).1)), (r).2) := by
  unfold fX7_learned_J224 at hf
  refine go_n 2 (f := (229, [some (.ref 60), none, none, none, none, some (.int x5), some (.int x6), some (.int x7), none, some (.int x9)], [.int 1], σ)) rfl ?_
  exact fX7_learned_J229_ok _ _ _ _ _ _ _ _ hrec130 hrec148 _ hf
def fX7_learned_J228 (x5 : Int32) (x6 : Int32) (x7 : Int32) (x9 : Int32) (rec130 : (Int32 × Int32) → Option (Int32 × Sg)) (rec148 : (Int32 × Int32 × Int32) → Option (Int32 × Sg)) (σ : Sg) : Option (Int32 × Sg) :=
  fX7_learned_J229 x5 x6 x7 x9 0 rec130 rec148 σ
set_option maxHeartbeats 1500000 in
theorem fX7_learned_J228_ok (x5 : Int32) (x6 : Int32) (x7 : Int32) (x9 : Int32) (rec130 : (Int32 × Int32) → Option (Int32 × Sg)) (rec148 : (Int32 × Int32 × Int32) → Option (Int32 × Sg)) (σ : Sg) (hrec130 : ∀ (y5 : Int32) (y6 : Int32) (r : (Int32 × Sg)), rec130 (y5, y6) = some r → Go true 9 iX7_learned (130, [some (.ref 60), none, none, none, none, some (.int y5), some (.int y6), none, none, none], [], σ) (.inl (some (.int (r).1)), (r).2)) (hrec148 : ∀ (y7 : Int32) (y8 : Int32) (y9 : Int32) (r : (Int32 × Sg)), rec148 (y7, y8, y9) = some r → Go true 9 iX7_learned (148, [some (.ref 60), none, none, none, none, some (.int x5), some (.int x6), some (.int y7), some (.int y8), some (.int y9)], [], σ) (.inl (some (.int (r).1)), (r).2)) (r : (Int32 × Sg)) (hf : fX7_learned_J228 x5 x6 x7 x9 rec130 rec148 σ = some r) : Go true 9 iX7_learned (228, [some (.ref 60), none, none, none, none, some (.int x5), some (.int x6), some (.int x7), none, some (.int x9)], [], σ) (.inl (some (.int (r).1)), (r).2) := by
  unfold fX7_learned_J228 at hf
  refine go_n 1 (f := (229, [some (.ref 60), none, none, none, none, some (.int x5), some (.int x6), some (.int x7), none, some (.int x9)], [.int 0], σ)) rfl ?_
  exact fX7_learned_J229_ok _ _ _ _ _ _ _ _ hrec130 hrec148 _ hf
def fX7_learned_J192 (x5 : Int32) (x6 : Int32) (x8 : Int32) (x9 : Int32) (s0 : Int32) (rec130 : (Int32 × Int32) → Option (Int32 × Sg)) (rec148 : (Int32 × Int32 × Int32) → Option (Int32 × Sg)) (σ : Sg) : Option (Int32 × Sg) :=
  if x8 ≠ 0 then fX7_learned_J224 x5 x6 s0 x9 rec130 rec148 σ else if x9 = x6 then fX7_learned_J228 x5 x6 s0 x9 rec130 rec148 σ else if inb x9 200 then if inb x6 200 then ((fun (z32 : Int32) => rec148 (s0, z32, (x9 + 1))) ((if (gl σ 79 x6.toNatClampNeg) < (gl σ 79 x9.toNatClampNeg) then 0 else 1) : Int32)) else none else none
set_option maxHeartbeats 1500000 in
theorem fX7_learned_J192_ok (x5 : Int32) (x6 : Int32) (x8 : Int32) (x9 : Int32) (s0 : Int32) (rec130 : (Int32 × Int32) → Option (Int32 × Sg)) (rec148 : (Int32 × Int32 × Int32) → Option (Int32 × Sg)) (σ : Sg) (hrec130 : ∀ (y5 : Int32) (y6 : Int32) (r : (Int32 × Sg)), rec130 (y5, y6) = some r → Go true 9 iX7_learned (130, [some (.ref 60), none, none, none, none, some (.int y5), some (.int y6), none, none, none], [], σ) (.inl (some (.int (r).1)), (r).2)) (hrec148 : ∀ (y7 : Int32) (y8 : Int32) (y9 : Int32) (r : (Int32 × Sg)), rec148 (y7, y8, y9) = some r → Go true 9 iX7_learned (148, [some (.ref 60), none, none, none, none, some (.int x5), some (.int x6), some (.int y7), some (.int y8), some (.int y9)], [], σ) (.inl (some (.int (r).1)), (r).2)) (r : (Int32 × Sg)) (hf : fX7_learned_J192 x5 x6 x8 x9 s0 rec130 rec148 σ = some r) : Go true 9 iX7_learned (192, [some (.ref 60), none, none, none, none, some (.int x5), some (.int x6), none, some (.int x8), some (.int x9)], [.int s0], σ) (.inl (some (.int (r).1)), (r).2) := by
  unfold fX7_learned_J192 at hf
  refine go_n 2 (f := (196, [some (.ref 60), none, none, none, none, some (.int x5), some (.int x6), some (.int s0), some (.int x8), some (.int x9)], [.int x8], σ)) rfl ?_
  by_cases h27 : x8 ≠ 0
  · rw [if_pos h27] at hf
    refine go_it (t := 224) (f := 199) (L1 := [some (.ref 60), none, none, none, none, some (.int x5), some (.int x6), some (.int s0), some (.int x8), some (.int x9)]) (st1 := []) (σ1 := σ) rfl h27 ?_
    refine go_e (L1 := [some (.ref 60), none, none, none, none, some (.int x5), some (.int x6), some (.int s0), none, some (.int x9)]) rfl rfl ?_
    exact fX7_learned_J224_ok _ _ _ _ _ _ _ hrec130 hrec148 _ hf
  · rw [if_neg h27] at hf
    refine go_if (t := 224) (f := 199) (L1 := [some (.ref 60), none, none, none, none, some (.int x5), some (.int x6), some (.int s0), some (.int x8), some (.int x9)]) (st1 := []) (σ1 := σ) rfl h27 ?_
    refine go_n 2 (f := (203, [some (.ref 60), none, none, none, none, some (.int x5), some (.int x6), some (.int s0), some (.int x8), some (.int x9)], [.int x6, .int x9], σ)) rfl ?_
    by_cases h28 : x9 = x6
    · rw [if_pos h28] at hf
      refine go_it (t := 228) (f := 206) (L1 := [some (.ref 60), none, none, none, none, some (.int x5), some (.int x6), some (.int s0), some (.int x8), some (.int x9)]) (st1 := []) (σ1 := σ) rfl h28 ?_
      refine go_e (L1 := [some (.ref 60), none, none, none, none, some (.int x5), some (.int x6), some (.int s0), none, some (.int x9)]) rfl rfl ?_
      exact fX7_learned_J228_ok _ _ _ _ _ _ _ hrec130 hrec148 _ hf
    · rw [if_neg h28] at hf
      refine go_if (t := 228) (f := 206) (L1 := [some (.ref 60), none, none, none, none, some (.int x5), some (.int x6), some (.int s0), some (.int x8), some (.int x9)]) (st1 := []) (σ1 := σ) rfl h28 ?_
      refine go_n 3 (f := (212, [some (.ref 60), none, none, none, none, some (.int x5), some (.int x6), some (.int s0), some (.int x8), some (.int x9)], [.int x9, .ref 79], σ)) rfl ?_
      obtain ⟨h29, hf⟩ := grd hf
      refine go_lald rfl rfl rfl h29 ?_
      refine go_n 3 (f := (219, [some (.ref 60), none, none, none, none, some (.int x5), some (.int x6), some (.int s0), some (.int x8), some (.int x9)], [.int x6, .ref 79, .long (gl σ 79 x9.toNatClampNeg)], σ)) rfl ?_
      obtain ⟨h30, hf⟩ := grd hf
      refine go_lald rfl rfl rfl h30 ?_
      refine go_n 1 (f := (221, [some (.ref 60), none, none, none, none, some (.int x5), some (.int x6), some (.int s0), some (.int x8), some (.int x9)], [.int (lg_cmp (gl σ 79 x9.toNatClampNeg) (gl σ 79 x6.toNatClampNeg))], σ)) rfl ?_
      refine go_m (f := (229, [some (.ref 60), none, none, none, none, some (.int x5), some (.int x6), some (.int s0), none, some (.int x9)], [.int ((if (gl σ 79 x6.toNatClampNeg) < (gl σ 79 x9.toNatClampNeg) then 0 else 1) : Int32)], σ)) ?_ (fun hJ33 => ?_)
      · generalize hz32 : ((if (gl σ 79 x6.toNatClampNeg) < (gl σ 79 x9.toNatClampNeg) then 0 else 1) : Int32) = z32 at hf ⊢
        have oz32 : am_ok 3 z32 = true := hz32 ▸ (okb rfl rfl)
        try dsimp only at hf
        refine go_n 2 (f := (234, [some (.ref 60), none, none, none, none, some (.int x5), some (.int x6), some (.int s0), some (.int z32), some (.int (x9 + 1))], [], σ)) rfl ?_
        refine go_n 1 (f := (148, [some (.ref 60), none, none, none, none, some (.int x5), some (.int x6), some (.int s0), some (.int z32), some (.int (x9 + 1))], [], σ)) rfl ?_
        exact hrec148 _ _ _ _ hf
      · by_cases h31 : (gl σ 79 x6.toNatClampNeg) < (gl σ 79 x9.toNatClampNeg)
        · refine go_it (t := 228) (f := 224) (L1 := [some (.ref 60), none, none, none, none, some (.int x5), some (.int x6), some (.int s0), some (.int x8), some (.int x9)]) (st1 := []) (σ1 := σ) rfl ((lgc_gt (gl σ 79 x9.toNatClampNeg) (gl σ 79 x6.toNatClampNeg)).mpr h31) ?_
          refine go_e (L1 := [some (.ref 60), none, none, none, none, some (.int x5), some (.int x6), some (.int s0), none, some (.int x9)]) rfl rfl ?_
          refine go_n 1 (f := (229, [some (.ref 60), none, none, none, none, some (.int x5), some (.int x6), some (.int s0), none, some (.int x9)], [.int 0], σ)) rfl ?_
          refine go_e (L1 := [some (.ref 60), none, none, none, none, some (.int x5), some (.int x6), some (.int s0), none, some (.int x9)]) rfl rfl ?_
          simp only [if_pos h31] at hJ33
          first | exact hJ33 | (simp only [if_pos h31]; exact hJ33)
        · refine go_if (t := 228) (f := 224) (L1 := [some (.ref 60), none, none, none, none, some (.int x5), some (.int x6), some (.int s0), some (.int x8), some (.int x9)]) (st1 := []) (σ1 := σ) rfl (fun q => h31 ((lgc_gt (gl σ 79 x9.toNatClampNeg) (gl σ 79 x6.toNatClampNeg)).mp q)) ?_
          refine go_e (L1 := [some (.ref 60), none, none, none, none, some (.int x5), some (.int x6), some (.int s0), none, some (.int x9)]) rfl rfl ?_
          refine go_n 2 (f := (229, [some (.ref 60), none, none, none, none, some (.int x5), some (.int x6), some (.int s0), none, some (.int x9)], [.int 1], σ)) rfl ?_
          refine go_e (L1 := [some (.ref 60), none, none, none, none, some (.int x5), some (.int x6), some (.int s0), none, some (.int x9)]) rfl rfl ?_
          simp only [if_neg h31] at hJ33
          first | exact hJ33 | (simp only [if_neg h31]; exact hJ33)
def fX7_learned_J187 (x5 : Int32) (x6 : Int32) (x8 : Int32) (x9 : Int32) (rec130 : (Int32 × Int32) → Option (Int32 × Sg)) (rec148 : (Int32 × Int32 × Int32) → Option (Int32 × Sg)) (σ : Sg) : Option (Int32 × Sg) :=
  fX7_learned_J192 x5 x6 x8 x9 1 rec130 rec148 σ
set_option maxHeartbeats 1500000 in
theorem fX7_learned_J187_ok (x5 : Int32) (x6 : Int32) (x8 : Int32) (x9 : Int32) (rec130 : (Int32 × Int32) → Option (Int32 × Sg)) (rec148 : (Int32 × Int32 × Int32) → Option (Int32 × Sg)) (σ : Sg) (hrec130 : ∀ (y5 : Int32) (y6 : Int32) (r : (Int32 × Sg)), rec130 (y5, y6) = some r → Go true 9 iX7_learned (130, [some (.ref 60), none, none, none, none, some (.int y5), some (.int y6), none, none, none], [], σ) (.inl (some (.int (r).1)), (r).2)) (hrec148 : ∀ (y7 : Int32) (y8 : Int32) (y9 : Int32) (r : (Int32 × Sg)), rec148 (y7, y8, y9) = some r → Go true 9 iX7_learned (148, [some (.ref 60), none, none, none, none, some (.int x5), some (.int x6), some (.int y7), some (.int y8), some (.int y9)], [], σ) (.inl (some (.int (r).1)), (r).2)) (r : (Int32 × Sg)) (hf : fX7_learned_J187 x5 x6 x8 x9 rec130 rec148 σ = some r) : Go true 9 iX7_learned (187, [some (.ref 60), none, none, none, none, some (.int x5), some (.int x6), none, some (.int x8), some (.int x9)], [], σ) (.inl (some (.int (r).1)), (r).2) := by
  unfold fX7_learned_J187 at hf
  refine go_n 2 (f := (192, [some (.ref 60), none, none, none, none, some (.int x5), some (.int x6), none, some (.int x8), some (.int x9)], [.int 1], σ)) rfl ?_
  exact fX7_learned_J192_ok _ _ _ _ _ _ _ _ hrec130 hrec148 _ hf
def fX7_learned_J191 (x5 : Int32) (x6 : Int32) (x8 : Int32) (x9 : Int32) (rec130 : (Int32 × Int32) → Option (Int32 × Sg)) (rec148 : (Int32 × Int32 × Int32) → Option (Int32 × Sg)) (σ : Sg) : Option (Int32 × Sg) :=
  fX7_learned_J192 x5 x6 x8 x9 0 rec130 rec148 σ
set_option maxHeartbeats 1500000 in
theorem fX7_learned_J191_ok (x5 : Int32) (x6 : Int32) (x8 : Int32) (x9 : Int32) (rec130 : (Int32 × Int32) → Option (Int32 × Sg)) (rec148 : (Int32 × Int32 × Int32) → Option (Int32 × Sg)) (σ : Sg) (hrec130 : ∀ (y5 : Int32) (y6 : Int32) (r : (Int32 × Sg)), rec130 (y5, y6) = some r → Go true 9 iX7_learned (130, [some (.ref 60), none, none, none, none, some (.int y5), some (.int y6), none, none, none], [], σ) (.inl (some (.int (r).1)), (r).2)) (hrec148 : ∀ (y7 : Int32) (y8 : Int32) (y9 : Int32) (r : (Int32 × Sg)), rec148 (y7, y8, y9) = some r → Go true 9 iX7_learned (148, [some (.ref 60), none, none, none, none, some (.int x5), some (.int x6), some (.int y7), some (.int y8), some (.int y9)], [], σ) (.inl (some (.int (r).1)), (r).2)) (r : (Int32 × Sg)) (hf : fX7_learned_J191 x5 x6 x8 x9 rec130 rec148 σ = some r) : Go true 9 iX7_learned (191, [some (.ref 60), none, none, none, none, some (.int x5), some (.int x6), none, some (.int x8), some (.int x9)], [], σ) (.inl (some (.int (r).1)), (r).2) := by
  unfold fX7_learned_J191 at hf
  refine go_n 1 (f := (192, [some (.ref 60), none, none, none, none, some (.int x5), some (.int x6), none, some (.int x8), some (.int x9)], [.int 0], σ)) rfl ?_
  exact fX7_learned_J192_ok _ _ _ _ _ _ _ _ hrec130 hrec148 _ hf
def fX7_learned_L148 (x5 : Int32) (x6 : Int32) (σ : Sg) (rec130 : (Int32 × Int32) → Option (Int32 × Sg)) (rec148 : (Int32 × Int32 × Int32) → Option (Int32 × Sg)) (s : Int32 × Int32 × Int32) : Option (Int32 × Sg) :=
  match s with
  | (x7, x8, x9) => if (gi σ 60 51) ≤ x9 then ((fun (z24 : Int32) => rec130 ((x5 + z24), (x6 + 1))) ((if x7 = 0 then 0 else (if x8 = 0 then 0 else 1)) : Int32)) else if x7 ≠ 0 then fX7_learned_J187 x5 x6 x8 x9 rec130 rec148 σ else if x9 = x6 then fX7_learned_J191 x5 x6 x8 x9 rec130 rec148 σ else if inb x9 200 then if inb x6 200 then ((fun (z38 : Int32) => if x8 ≠ 0 then fX7_learned_J224 x5 x6 z38 x9 rec130 rec148 σ else if x9 = x6 then fX7_learned_J228 x5 x6 z38 x9 rec130 rec148 σ else if inb x9 200 then if inb x6 200 then ((fun (z44 : Int32) => rec148 (z38, z44, (x9 + 1))) ((if (gl σ 79 x6.toNatClampNeg) < (gl σ 79 x9.toNatClampNeg) then 0 else 1) : Int32)) else none else none) ((if (gl σ 79 x9.toNatClampNeg) < (gl σ 79 x6.toNatClampNeg) then 0 else 1) : Int32)) else none else none
set_option maxHeartbeats 1500000 in
theorem fX7_learned_L148_ok (x5 : Int32) (x6 : Int32) (σ : Sg) (rec130 : (Int32 × Int32) → Option (Int32 × Sg)) (hrec130 : ∀ (y5 : Int32) (y6 : Int32) (r : (Int32 × Sg)), rec130 (y5, y6) = some r → Go true 9 iX7_learned (130, [some (.ref 60), none, none, none, none, some (.int y5), some (.int y6), none, none, none], [], σ) (.inl (some (.int (r).1)), (r).2)) : ∀ (n : Nat) (x7 : Int32) (x8 : Int32) (x9 : Int32) (r : (Int32 × Sg)), lp (fX7_learned_L148 x5 x6 σ rec130) n (x7, x8, x9) = some r → Go true 9 iX7_learned (148, [some (.ref 60), none, none, none, none, some (.int x5), some (.int x6), some (.int x7), some (.int x8), some (.int x9)], [], σ) (.inl (some (.int (r).1)), (r).2) := by
  intro n
  induction n with
  | zero => intro x7 x8 x9 r hf; cases hf
  | succ n ih =>
    intro x7 x8 x9 r hf
    have hf : fX7_learned_L148 x5 x6 σ rec130 (lp (fX7_learned_L148 x5 x6 σ rec130) n) (x7, x8, x9) = some r := hf
    have hrec148 := ih
    generalize lp (fX7_learned_L148 x5 x6 σ rec130) n = rec148 at hf hrec148
    unfold fX7_learned_L148 at hf
    dsimp only at hf
    refine go_n 3 (f := (154, [some (.ref 60), none, none, none, none, some (.int x5), some (.int x6), some (.int x7), some (.int x8), some (.int x9)], [.int (gi σ 60 51), .int x9], σ)) rfl ?_
    by_cases h21 : (gi σ 60 51) ≤ x9
    · rw [if_pos h21] at hf
      refine go_it (t := 237) (f := 157) (L1 := [some (.ref 60), none, none, none, none, some (.int x5), some (.int x6), some (.int x7), some (.int x8), some (.int x9)]) (st1 := []) (σ1 := σ) rfl h21 ?_
      refine go_n 2 (f := (241, [some (.ref 60), none, none, none, none, some (.int x5), some (.int x6), some (.int x7), some (.int x8), some (.int x9)], [.int x7, .int x5], σ)) rfl ?_
      refine go_m (f := (254, [some (.ref 60), none, none, none, none, none, some (.int x6), none, none, none], [.int ((if x7 = 0 then 0 else (if x8 = 0 then 0 else 1)) : Int32), .int x5], σ)) ?_ (fun hJ25 => ?_)
      · generalize hz24 : ((if x7 = 0 then 0 else (if x8 = 0 then 0 else 1)) : Int32) = z24 at hf ⊢
        have oz24 : am_ok 3 z24 = true := hz24 ▸ (okb rfl (okb rfl rfl))
        try dsimp only at hf
        refine go_n 3 (f := (260, [some (.ref 60), none, none, none, none, some (.int (x5 + z24)), some (.int (x6 + 1)), none, none, none], [], σ)) rfl ?_
        refine go_n 1 (f := (130, [some (.ref 60), none, none, none, none, some (.int (x5 + z24)), some (.int (x6 + 1)), none, none, none], [], σ)) rfl ?_
        exact hrec130 _ _ _ hf
      · by_cases h22 : x7 = 0
        · refine go_it (t := 253) (f := 244) (L1 := [some (.ref 60), none, none, none, none, some (.int x5), some (.int x6), some (.int x7), some (.int x8), some (.int x9)]) (st1 := [.int x5]) (σ1 := σ) rfl h22 ?_
          refine go_e (L1 := [some (.ref 60), none, none, none, none, none, some (.int x6), none, none, none]) rfl rfl ?_
          refine go_n 1 (f := (254, [some (.ref 60), none, none, none, none, none, some (.int x6), none, none, none], [.int 0, .int x5], σ)) rfl ?_
          refine go_e (L1 := [some (.ref 60), none, none, none, none, none, some (.int x6), none, none, none]) rfl rfl ?_
          simp only [if_pos h22] at hJ25
          first | exact hJ25 | (simp only [if_pos h22]; exact hJ25)
        · refine go_if (t := 253) (f := 244) (L1 := [some (.ref 60), none, none, none, none, some (.int x5), some (.int x6), some (.int x7), some (.int x8), some (.int x9)]) (st1 := [.int x5]) (σ1 := σ) rfl h22 ?_
          refine go_n 1 (f := (246, [some (.ref 60), none, none, none, none, some (.int x5), some (.int x6), some (.int x7), some (.int x8), some (.int x9)], [.int x8, .int x5], σ)) rfl ?_
          by_cases h23 : x8 = 0
          · refine go_it (t := 253) (f := 249) (L1 := [some (.ref 60), none, none, none, none, some (.int x5), some (.int x6), some (.int x7), some (.int x8), some (.int x9)]) (st1 := [.int x5]) (σ1 := σ) rfl h23 ?_
            refine go_e (L1 := [some (.ref 60), none, none, none, none, none, some (.int x6), none, none, none]) rfl rfl ?_
            refine go_n 1 (f := (254, [some (.ref 60), none, none, none, none, none, some (.int x6), none, none, none], [.int 0, .int x5], σ)) rfl ?_
            refine go_e (L1 := [some (.ref 60), none, none, none, none, none, some (.int x6), none, none, none]) rfl rfl ?_
            simp only [if_neg h22, if_pos h23] at hJ25
            first | exact hJ25 | (simp only [if_neg h22, if_pos h23]; exact hJ25)
          · refine go_if (t := 253) (f := 249) (L1 := [some (.ref 60), none, none, none, none, some (.int x5), some (.int x6), some (.int x7), some (.int x8), some (.int x9)]) (st1 := [.int x5]) (σ1 := σ) rfl h23 ?_
            refine go_n 2 (f := (254, [some (.ref 60), none, none, none, none, some (.int x5), some (.int x6), some (.int x7), some (.int x8), some (.int x9)], [.int 1, .int x5], σ)) rfl ?_
            refine go_e (L1 := [some (.ref 60), none, none, none, none, none, some (.int x6), none, none, none]) rfl rfl ?_
            simp only [if_neg h22, if_neg h23] at hJ25
            first | exact hJ25 | (simp only [if_neg h22, if_neg h23]; exact hJ25)
    · rw [if_neg h21] at hf
      refine go_if (t := 237) (f := 157) (L1 := [some (.ref 60), none, none, none, none, some (.int x5), some (.int x6), some (.int x7), some (.int x8), some (.int x9)]) (st1 := []) (σ1 := σ) rfl h21 ?_
      refine go_n 1 (f := (159, [some (.ref 60), none, none, none, none, some (.int x5), some (.int x6), some (.int x7), some (.int x8), some (.int x9)], [.int x7], σ)) rfl ?_
      by_cases h26 : x7 ≠ 0
      · rw [if_pos h26] at hf
        refine go_it (t := 187) (f := 162) (L1 := [some (.ref 60), none, none, none, none, some (.int x5), some (.int x6), some (.int x7), some (.int x8), some (.int x9)]) (st1 := []) (σ1 := σ) rfl h26 ?_
        refine go_e (L1 := [some (.ref 60), none, none, none, none, some (.int x5), some (.int x6), none, some (.int x8), some (.int x9)]) rfl rfl ?_
        exact fX7_learned_J187_ok _ _ _ _ _ _ _ hrec130 hrec148 _ hf
      · rw [if_neg h26] at hf
        refine go_if (t := 187) (f := 162) (L1 := [some (.ref 60), none, none, none, none, some (.int x5), some (.int x6), some (.int x7), some (.int x8), some (.int x9)]) (st1 := []) (σ1 := σ) rfl h26 ?_
        refine go_n 2 (f := (166, [some (.ref 60), none, none, none, none, some (.int x5), some (.int x6), some (.int x7), some (.int x8), some (.int x9)], [.int x6, .int x9], σ)) rfl ?_
        by_cases h34 : x9 = x6
        · rw [if_pos h34] at hf
          refine go_it (t := 191) (f := 169) (L1 := [some (.ref 60), none, none, none, none, some (.int x5), some (.int x6), some (.int x7), some (.int x8), some (.int x9)]) (st1 := []) (σ1 := σ) rfl h34 ?_
          refine go_e (L1 := [some (.ref 60), none, none, none, none, some (.int x5), some (.int x6), none, some (.int x8), some (.int x9)]) rfl rfl ?_
          exact fX7_learned_J191_ok _ _ _ _ _ _ _ hrec130 hrec148 _ hf
        · rw [if_neg h34] at hf
          refine go_if (t := 191) (f := 169) (L1 := [some (.ref 60), none, none, none, none, some (.int x5), some (.int x6), some (.int x7), some (.int x8), some (.int x9)]) (st1 := []) (σ1 := σ) rfl h34 ?_
          refine go_n 3 (f := (175, [some (.ref 60), none, none, none, none, some (.int x5), some (.int x6), some (.int x7), some (.int x8), some (.int x9)], [.int x9, .ref 79], σ)) rfl ?_
          obtain ⟨h35, hf⟩ := grd hf
          refine go_lald rfl rfl rfl h35 ?_
          refine go_n 3 (f := (182, [some (.ref 60), none, none, none, none, some (.int x5), some (.int x6), some (.int x7), some (.int x8), some (.int x9)], [.int x6, .ref 79, .long (gl σ 79 x9.toNatClampNeg)], σ)) rfl ?_
          obtain ⟨h36, hf⟩ := grd hf
          refine go_lald rfl rfl rfl h36 ?_
          refine go_n 1 (f := (184, [some (.ref 60), none, none, none, none, some (.int x5), some (.int x6), some (.int x7), some (.int x8), some (.int x9)], [.int (lg_cmp (gl σ 79 x9.toNatClampNeg) (gl σ 79 x6.toNatClampNeg))], σ)) rfl ?_
          refine go_m (f := (192, [some (.ref 60), none, none, none, none, some (.int x5), some (.int x6), none, some (.int x8), some (.int x9)], [.int ((if (gl σ 79 x9.toNatClampNeg) < (gl σ 79 x6.toNatClampNeg) then 0 else 1) : Int32)], σ)) ?_ (fun hJ46 => ?_)
          · generalize hz38 : ((if (gl σ 79 x9.toNatClampNeg) < (gl σ 79 x6.toNatClampNeg) then 0 else 1) : Int32) = z38 at hf ⊢
            have oz38 : am_ok 3 z38 = true := hz38 ▸ (okb rfl rfl)
            try dsimp only at hf
            refine go_n 2 (f := (196, [some (.ref 60), none, none, none, none, some (.int x5), some (.int x6), some (.int z38), some (.int x8), some (.int x9)], [.int x8], σ)) rfl ?_
            by_cases h39 : x8 ≠ 0
            · rw [if_pos h39] at hf
              refine go_it (t := 224) (f := 199) (L1 := [some (.ref 60), none, none, none, none, some (.int x5), some (.int x6), some (.int z38), some (.int x8), some (.int x9)]) (st1 := []) (σ1 := σ) rfl h39 ?_
              refine go_e (L1 := [some (.ref 60), none, none, none, none, some (.int x5), some (.int x6), some (.int z38), none, some (.int x9)]) rfl rfl ?_
              exact fX7_learned_J224_ok _ _ _ _ _ _ _ hrec130 hrec148 _ hf
            · rw [if_neg h39] at hf
              refine go_if (t := 224) (f := 199) (L1 := [some (.ref 60), none, none, none, none, some (.int x5), some (.int x6), some (.int z38), some (.int x8), some (.int x9)]) (st1 := []) (σ1 := σ) rfl h39 ?_
              refine go_n 2 (f := (203, [some (.ref 60), none, none, none, none, some (.int x5), some (.int x6), some (.int z38), some (.int x8), some (.int x9)], [.int x6, .int x9], σ)) rfl ?_
              by_cases h40 : x9 = x6
              · rw [if_pos h40] at hf
                refine go_it (t := 228) (f := 206) (L1 := [some (.ref 60), none, none, none, none, some (.int x5), some (.int x6), some (.int z38), some (.int x8), some (.int x9)]) (st1 := []) (σ1 := σ) rfl h40 ?_
                refine go_e (L1 := [some (.ref 60), none, none, none, none, some (.int x5), some (.int x6), some (.int z38), none, some (.int x9)]) rfl rfl ?_
                exact fX7_learned_J228_ok _ _ _ _ _ _ _ hrec130 hrec148 _ hf
              · rw [if_neg h40] at hf
                refine go_if (t := 228) (f := 206) (L1 := [some (.ref 60), none, none, none, none, some (.int x5), some (.int x6), some (.int z38), some (.int x8), some (.int x9)]) (st1 := []) (σ1 := σ) rfl h40 ?_
                refine go_n 3 (f := (212, [some (.ref 60), none, none, none, none, some (.int x5), some (.int x6), some (.int z38), some (.int x8), some (.int x9)], [.int x9, .ref 79], σ)) rfl ?_
                obtain ⟨h41, hf⟩ := grd hf
                refine go_lald rfl rfl rfl h41 ?_
                refine go_n 3 (f := (219, [some (.ref 60), none, none, none, none, some (.int x5), some (.int x6), some (.int z38), some (.int x8), some (.int x9)], [.int x6, .ref 79, .long (gl σ 79 x9.toNatClampNeg)], σ)) rfl ?_
                obtain ⟨h42, hf⟩ := grd hf
                refine go_lald rfl rfl rfl h42 ?_
                refine go_n 1 (f := (221, [some (.ref 60), none, none, none, none, some (.int x5), some (.int x6), some (.int z38), some (.int x8), some (.int x9)], [.int (lg_cmp (gl σ 79 x9.toNatClampNeg) (gl σ 79 x6.toNatClampNeg))], σ)) rfl ?_
                refine go_m (f := (229, [some (.ref 60), none, none, none, none, some (.int x5), some (.int x6), some (.int z38), none, some (.int x9)], [.int ((if (gl σ 79 x6.toNatClampNeg) < (gl σ 79 x9.toNatClampNeg) then 0 else 1) : Int32)], σ)) ?_ (fun hJ45 => ?_)
                · generalize hz44 : ((if (gl σ 79 x6.toNatClampNeg) < (gl σ 79 x9.toNatClampNeg) then 0 else 1) : Int32) = z44 at hf ⊢
                  have oz44 : am_ok 3 z44 = true := hz44 ▸ (okb rfl rfl)
                  try dsimp only at hf
                  refine go_n 2 (f := (234, [some (.ref 60), none, none, none, none, some (.int x5), some (.int x6), some (.int z38), some (.int z44), some (.int (x9 + 1))], [], σ)) rfl ?_
                  refine go_n 1 (f := (148, [some (.ref 60), none, none, none, none, some (.int x5), some (.int x6), some (.int z38), some (.int z44), some (.int (x9 + 1))], [], σ)) rfl ?_
                  exact hrec148 _ _ _ _ hf
                · by_cases h43 : (gl σ 79 x6.toNatClampNeg) < (gl σ 79 x9.toNatClampNeg)
                  · refine go_it (t := 228) (f := 224) (L1 := [some (.ref 60), none, none, none, none, some (.int x5), some (.int x6), some (.int z38), some (.int x8), some (.int x9)]) (st1 := []) (σ1 := σ) rfl ((lgc_gt (gl σ 79 x9.toNatClampNeg) (gl σ 79 x6.toNatClampNeg)).mpr h43) ?_
                    refine go_e (L1 := [some (.ref 60), none, none, none, none, some (.int x5), some (.int x6), some (.int z38), none, some (.int x9)]) rfl rfl ?_
                    refine go_n 1 (f := (229, [some (.ref 60), none, none, none, none, some (.int x5), some (.int x6), some (.int z38), none, some (.int x9)], [.int 0], σ)) rfl ?_
                    refine go_e (L1 := [some (.ref 60), none, none, none, none, some (.int x5), some (.int x6), some (.int z38), none, some (.int x9)]) rfl rfl ?_
                    simp only [if_pos h43] at hJ45
                    first | exact hJ45 | (simp only [if_pos h43]; exact hJ45)
                  · refine go_if (t := 228) (f := 224) (L1 := [some (.ref 60), none, none, none, none, some (.int x5), some (.int x6), some (.int z38), some (.int x8), some (.int x9)]) (st1 := []) (σ1 := σ) rfl (fun q => h43 ((lgc_gt (gl σ 79 x9.toNatClampNeg) (gl σ 79 x6.toNatClampNeg)).mp q)) ?_
                    refine go_e (L1 := [some (.ref 60), none, none, none, none, some (.int x5), some (.int x6), some (.int z38), none, some (.int x9)]) rfl rfl ?_
                    refine go_n 2 (f := (229, [some (.ref 60), none, none, none, none, some (.int x5), some (.int x6), some (.int z38), none, some (.int x9)], [.int 1], σ)) rfl ?_
                    refine go_e (L1 := [some (.ref 60), none, none, none, none, some (.int x5), some (.int x6), some (.int z38), none, some (.int x9)]) rfl rfl ?_
                    simp only [if_neg h43] at hJ45
                    first | exact hJ45 | (simp only [if_neg h43]; exact hJ45)
          · by_cases h37 : (gl σ 79 x9.toNatClampNeg) < (gl σ 79 x6.toNatClampNeg)
            · refine go_it (t := 191) (f := 187) (L1 := [some (.ref 60), none, none, none, none, some (.int x5), some (.int x6), some (.int x7), some (.int x8), some (.int x9)]) (st1 := []) (σ1 := σ) rfl ((lgc_lt (gl σ 79 x9.toNatClampNeg) (gl σ 79 x6.toNatClampNeg)).mpr h37) ?_
              refine go_e (L1 := [some (.ref 60), none, none, none, none, some (.int x5), some (.int x6), none, some (.int x8), some (.int x9)]) rfl rfl ?_
              refine go_n 1 (f := (192, [some (.ref 60), none, none, none, none, some (.int x5), some (.int x6), none, some (.int x8), some (.int x9)], [.int 0], σ)) rfl ?_
              refine go_e (L1 := [some (.ref 60), none, none, none, none, some (.int x5), some (.int x6), none, some (.int x8), some (.int x9)]) rfl rfl ?_
              simp only [if_pos h37] at hJ46
              first | exact hJ46 | (simp only [if_pos h37]; exact hJ46)
            · refine go_if (t := 191) (f := 187) (L1 := [some (.ref 60), none, none, none, none, some (.int x5), some (.int x6), some (.int x7), some (.int x8), some (.int x9)]) (st1 := []) (σ1 := σ) rfl (fun q => h37 ((lgc_lt (gl σ 79 x9.toNatClampNeg) (gl σ 79 x6.toNatClampNeg)).mp q)) ?_
              refine go_e (L1 := [some (.ref 60), none, none, none, none, some (.int x5), some (.int x6), none, some (.int x8), some (.int x9)]) rfl rfl ?_
              refine go_n 2 (f := (192, [some (.ref 60), none, none, none, none, some (.int x5), some (.int x6), none, some (.int x8), some (.int x9)], [.int 1], σ)) rfl ?_
              refine go_e (L1 := [some (.ref 60), none, none, none, none, some (.int x5), some (.int x6), none, some (.int x8), some (.int x9)]) rfl rfl ?_
              simp only [if_neg h37] at hJ46
              first | exact hJ46 | (simp only [if_neg h37]; exact hJ46)
def fX7_learned_L130  (σ : Sg)  (rec130 : (Int32 × Int32) → Option (Int32 × Sg)) (s : Int32 × Int32) : Option (Int32 × Sg) :=
  match s with
  | (x5, x6) => if (gi σ 60 51) ≤ x6 then some (x5, σ) else lp (fX7_learned_L148 x5 x6 σ rec130) N0 (0, 0, 0)
set_option maxHeartbeats 1500000 in
theorem fX7_learned_L130_ok  (σ : Sg)   : ∀ (n : Nat) (x5 : Int32) (x6 : Int32) (r : (Int32 × Sg)), lp (fX7_learned_L130  σ ) n (x5, x6) = some r → Go true 9 iX7_learned (130, [some (.ref 60), none, none, none, none, some (.int x5), some (.int x6), none, none, none], [], σ) (.inl (some (.int (r).1)), (r).2) := by
  intro n
  induction n with
  | zero => intro x5 x6 r hf; cases hf
  | succ n ih =>
    intro x5 x6 r hf
    have hf : fX7_learned_L130  σ  (lp (fX7_learned_L130  σ ) n) (x5, x6) = some r := hf
    have hrec130 := ih
    generalize lp (fX7_learned_L130  σ ) n = rec130 at hf hrec130
    unfold fX7_learned_L130 at hf
    dsimp only at hf
    refine go_n 3 (f := (136, [some (.ref 60), none, none, none, none, some (.int x5), some (.int x6), none, none, none], [.int (gi σ 60 51), .int x6], σ)) rfl ?_
    by_cases h20 : (gi σ 60 51) ≤ x6
    · rw [if_pos h20] at hf
      refine go_it (t := 263) (f := 139) (L1 := [some (.ref 60), none, none, none, none, some (.int x5), some (.int x6), none, none, none]) (st1 := []) (σ1 := σ) rfl h20 ?_
      refine go_n 1 (f := (265, [some (.ref 60), none, none, none, none, some (.int x5), some (.int x6), none, none, none], [.int x5], σ)) rfl ?_
      cases hf
      exact go_r rfl
    · rw [if_neg h20] at hf
      refine go_if (t := 263) (f := 139) (L1 := [some (.ref 60), none, none, none, none, some (.int x5), some (.int x6), none, none, none]) (st1 := []) (σ1 := σ) rfl h20 ?_
      refine go_n 4 (f := (145, [some (.ref 60), none, none, none, none, some (.int x5), some (.int x6), some (.int 0), some (.int 0), none], [], σ)) rfl ?_
      refine go_n 2 (f := (148, [some (.ref 60), none, none, none, none, some (.int x5), some (.int x6), some (.int 0), some (.int 0), some (.int 0)], [], σ)) rfl ?_
      exact fX7_learned_L148_ok _ _ _ _ hrec130 N0 _ _ _ _ hf
def fX7_learned (x1 : Int32) (x2 : Int32) (x3 : Int32) (x4 : Int32) (σ : Sg) : Option (Int32 × Sg) :=
  (fX7_in x1.toInt64 0 7).bind fun q1 => if q1 = 0 then some ((-100000), (wi σ 60 0 0)) else (fX7_in x2.toInt64 0 19).bind fun q4 => if q4 = 0 then some ((-100000), (wi σ 60 0 0)) else (fX7_isKnown x3).bind fun q7 => if q7 = 0 then some ((-100000), (wi σ 60 0 0)) else (fX7_in x4.toInt64 0 3).bind fun q10 => if q10 ≠ 0 then (fX7_knowBy x3 (wi σ 60 0 0)).bind fun q13 => if 2 ≤ x4 then (fX7_findPairs x1 x2 q13).bind fun q16 => if x4 ≠ 2 then if 3 ≤ (gi q16 60 51) then lp (fX7_learned_L130  q16 ) N0 (0, 0) else some ((-100000), q16) else some ((gi q16 60 51), q16) else (fX7_findLearned x1 x2 q13).bind fun q47 => ((fun (z51 : Int32) => some (z51, q47.2)) (if q47.1 ≠ 0 then (if x4 ≠ 0 then (gl q47.2 60 49).toInt32 else (gl q47.2 60 48).toInt32) else (-100000))) else some ((-100000), (wi σ 60 0 0))
set_option maxHeartbeats 1500000 in
theorem fX7_learned_ok (x1 : Int32) (x2 : Int32) (x3 : Int32) (x4 : Int32) (σ : Sg) (r : (Int32 × Sg)) (hf : fX7_learned x1 x2 x3 x4 σ = some r) : Cl true 9 12135 [.ref 60, .int x1, .int x2, .int x3, .int x4] σ (.inl (some (.int (r).1)), (r).2) := by
  refine ⟨iX7_learned, rfl, Nat.le_of_ble_eq_true rfl, Nat.le_of_ble_eq_true rfl, ?_⟩
  show Go true 9 iX7_learned (0, [some (.ref 60), some (.int x1), some (.int x2), some (.int x3), some (.int x4), none, none, none, none, none], [], σ) (.inl (some (.int (r).1)), (r).2)
  unfold fX7_learned at hf
  refine go_n 7 (f := (11, [some (.ref 60), some (.int x1), some (.int x2), some (.int x3), some (.int x4), none, none, none, none, none], [.long 7, .long 0, .long x1.toInt64], (wi σ 60 0 0))) rfl ?_
  obtain ⟨q1, h2, hf⟩ := bnd hf
  refine go_c (mid := 12034) (args := [.long x1.toInt64, .long 0, .long 7]) (pc := 14) (L := [some (.ref 60), some (.int x1), some (.int x2), some (.int x3), some (.int x4), none, none, none, none, none]) (st := []) (σ := (wi σ 60 0 0)) rfl ((fX7_in_ok _ _ _ _ q1 h2).deep (Nat.le_of_ble_eq_true rfl)) ?_
  by_cases h3 : q1 = 0
  · rw [if_pos h3] at hf
    refine go_it (t := 49) (f := 17) (L1 := [some (.ref 60), some (.int x1), some (.int x2), some (.int x3), some (.int x4), none, none, none, none, none]) (st1 := []) (σ1 := (wi σ 60 0 0)) rfl h3 ?_
    refine go_e (L1 := [none, none, none, none, none, none, none, none, none, none]) rfl rfl ?_
    refine go_n 1 (f := (51, [none, none, none, none, none, none, none, none, none, none], [.int (-100000)], (wi σ 60 0 0))) rfl ?_
    cases hf
    exact go_r rfl
  · rw [if_neg h3] at hf
    refine go_if (t := 49) (f := 17) (L1 := [some (.ref 60), some (.int x1), some (.int x2), some (.int x3), some (.int x4), none, none, none, none, none]) (st1 := []) (σ1 := (wi σ 60 0 0)) rfl h3 ?_
    refine go_n 4 (f := (23, [some (.ref 60), some (.int x1), some (.int x2), some (.int x3), some (.int x4), none, none, none, none, none], [.long 19, .long 0, .long x2.toInt64], (wi σ 60 0 0))) rfl ?_
    obtain ⟨q4, h5, hf⟩ := bnd hf
    refine go_c (mid := 12034) (args := [.long x2.toInt64, .long 0, .long 19]) (pc := 26) (L := [some (.ref 60), some (.int x1), some (.int x2), some (.int x3), some (.int x4), none, none, none, none, none]) (st := []) (σ := (wi σ 60 0 0)) rfl ((fX7_in_ok _ _ _ _ q4 h5).deep (Nat.le_of_ble_eq_true rfl)) ?_
    by_cases h6 : q4 = 0
    · rw [if_pos h6] at hf
      refine go_it (t := 49) (f := 29) (L1 := [some (.ref 60), some (.int x1), some (.int x2), some (.int x3), some (.int x4), none, none, none, none, none]) (st1 := []) (σ1 := (wi σ 60 0 0)) rfl h6 ?_
      refine go_e (L1 := [none, none, none, none, none, none, none, none, none, none]) rfl rfl ?_
      refine go_n 1 (f := (51, [none, none, none, none, none, none, none, none, none, none], [.int (-100000)], (wi σ 60 0 0))) rfl ?_
      cases hf
      exact go_r rfl
    · rw [if_neg h6] at hf
      refine go_if (t := 49) (f := 29) (L1 := [some (.ref 60), some (.int x1), some (.int x2), some (.int x3), some (.int x4), none, none, none, none, none]) (st1 := []) (σ1 := (wi σ 60 0 0)) rfl h6 ?_
      refine go_n 1 (f := (30, [some (.ref 60), some (.int x1), some (.int x2), some (.int x3), some (.int x4), none, none, none, none, none], [.int x3], (wi σ 60 0 0))) rfl ?_
      obtain ⟨q7, h8, hf⟩ := bnd hf
      refine go_c (mid := 12057) (args := [.int x3]) (pc := 33) (L := [some (.ref 60), some (.int x1), some (.int x2), some (.int x3), some (.int x4), none, none, none, none, none]) (st := []) (σ := (wi σ 60 0 0)) rfl ((fX7_isKnown_ok _ _ q7 h8).deep (Nat.le_of_ble_eq_true rfl)) ?_
      by_cases h9 : q7 = 0
      · rw [if_pos h9] at hf
        refine go_it (t := 49) (f := 36) (L1 := [some (.ref 60), some (.int x1), some (.int x2), some (.int x3), some (.int x4), none, none, none, none, none]) (st1 := []) (σ1 := (wi σ 60 0 0)) rfl h9 ?_
        refine go_e (L1 := [none, none, none, none, none, none, none, none, none, none]) rfl rfl ?_
        refine go_n 1 (f := (51, [none, none, none, none, none, none, none, none, none, none], [.int (-100000)], (wi σ 60 0 0))) rfl ?_
        cases hf
        exact go_r rfl
      · rw [if_neg h9] at hf
        refine go_if (t := 49) (f := 36) (L1 := [some (.ref 60), some (.int x1), some (.int x2), some (.int x3), some (.int x4), none, none, none, none, none]) (st1 := []) (σ1 := (wi σ 60 0 0)) rfl h9 ?_
        refine go_n 4 (f := (43, [some (.ref 60), some (.int x1), some (.int x2), some (.int x3), some (.int x4), none, none, none, none, none], [.long 3, .long 0, .long x4.toInt64], (wi σ 60 0 0))) rfl ?_
        obtain ⟨q10, h11, hf⟩ := bnd hf
        refine go_c (mid := 12034) (args := [.long x4.toInt64, .long 0, .long 3]) (pc := 46) (L := [some (.ref 60), some (.int x1), some (.int x2), some (.int x3), some (.int x4), none, none, none, none, none]) (st := []) (σ := (wi σ 60 0 0)) rfl ((fX7_in_ok _ _ _ _ q10 h11).deep (Nat.le_of_ble_eq_true rfl)) ?_
        by_cases h12 : q10 ≠ 0
        · rw [if_pos h12] at hf
          refine go_it (t := 52) (f := 49) (L1 := [some (.ref 60), some (.int x1), some (.int x2), some (.int x3), some (.int x4), none, none, none, none, none]) (st1 := []) (σ1 := (wi σ 60 0 0)) rfl h12 ?_
          refine go_n 2 (f := (54, [some (.ref 60), some (.int x1), some (.int x2), some (.int x3), some (.int x4), none, none, none, none, none], [.int x3, .ref 60], (wi σ 60 0 0))) rfl ?_
          obtain ⟨q13, h14, hf⟩ := bnd hf
          refine go_c (mid := 12107) (args := [.ref 60, .int x3]) (pc := 57) (L := [some (.ref 60), some (.int x1), some (.int x2), some (.int x3), some (.int x4), none, none, none, none, none]) (st := []) (σ := (wi σ 60 0 0)) rfl ((fX7_knowBy_ok _ _ q13 h14).deep (Nat.le_of_ble_eq_true rfl)) ?_
          refine go_n 2 (f := (60, [some (.ref 60), some (.int x1), some (.int x2), some (.int x3), some (.int x4), none, none, none, none, none], [.int 2, .int x4], q13)) rfl ?_
          by_cases h15 : 2 ≤ x4
          · rw [if_pos h15] at hf
            refine go_it (t := 96) (f := 63) (L1 := [some (.ref 60), some (.int x1), some (.int x2), some (.int x3), some (.int x4), none, none, none, none, none]) (st1 := []) (σ1 := q13) rfl h15 ?_
            refine go_n 3 (f := (99, [some (.ref 60), some (.int x1), some (.int x2), some (.int x3), some (.int x4), none, none, none, none, none], [.int x2, .int x1, .ref 60], q13)) rfl ?_
            obtain ⟨q16, h17, hf⟩ := bnd hf
            refine go_c (mid := 12129) (args := [.ref 60, .int x1, .int x2]) (pc := 102) (L := [some (.ref 60), some (.int x1), some (.int x2), some (.int x3), some (.int x4), none, none, none, none, none]) (st := []) (σ := q13) rfl ((fX7_findPairs_ok _ _ _ q16 h17).deep (Nat.le_of_ble_eq_true rfl)) ?_
            refine go_n 2 (f := (105, [some (.ref 60), some (.int x1), some (.int x2), some (.int x3), some (.int x4), none, none, none, none, none], [.int 2, .int x4], q16)) rfl ?_
            by_cases h18 : x4 ≠ 2
            · rw [if_pos h18] at hf
              refine go_it (t := 113) (f := 108) (L1 := [some (.ref 60), some (.int x1), some (.int x2), some (.int x3), some (.int x4), none, none, none, none, none]) (st1 := []) (σ1 := q16) rfl h18 ?_
              refine go_n 3 (f := (118, [some (.ref 60), some (.int x1), some (.int x2), some (.int x3), some (.int x4), none, none, none, none, none], [.int 3, .int (gi q16 60 51)], q16)) rfl ?_
              by_cases h19 : 3 ≤ (gi q16 60 51)
              · rw [if_pos h19] at hf
                refine go_it (t := 124) (f := 121) (L1 := [some (.ref 60), some (.int x1), some (.int x2), some (.int x3), some (.int x4), none, none, none, none, none]) (st1 := []) (σ1 := q16) rfl h19 ?_
                refine go_n 4 (f := (130, [some (.ref 60), some (.int x1), some (.int x2), some (.int x3), some (.int x4), some (.int 0), some (.int 0), none, none, none], [], q16)) rfl ?_
                refine go_e (L1 := [some (.ref 60), none, none, none, none, some (.int 0), some (.int 0), none, none, none]) rfl rfl ?_
                exact fX7_learned_L130_ok  _   N0 _ _ _ hf
              · rw [if_neg h19] at hf
                refine go_if (t := 124) (f := 121) (L1 := [some (.ref 60), some (.int x1), some (.int x2), some (.int x3), some (.int x4), none, none, none, none, none]) (st1 := []) (σ1 := q16) rfl h19 ?_
                refine go_n 1 (f := (123, [some (.ref 60), some (.int x1), some (.int x2), some (.int x3), some (.int x4), none, none, none, none, none], [.int (-100000)], q16)) rfl ?_
                cases hf
                exact go_r rfl
            · rw [if_neg h18] at hf
              refine go_if (t := 113) (f := 108) (L1 := [some (.ref 60), some (.int x1), some (.int x2), some (.int x3), some (.int x4), none, none, none, none, none]) (st1 := []) (σ1 := q16) rfl h18 ?_
              refine go_n 2 (f := (112, [some (.ref 60), some (.int x1), some (.int x2), some (.int x3), some (.int x4), none, none, none, none, none], [.int (gi q16 60 51)], q16)) rfl ?_
              cases hf
              exact go_r rfl
          · rw [if_neg h15] at hf
            refine go_if (t := 96) (f := 63) (L1 := [some (.ref 60), some (.int x1), some (.int x2), some (.int x3), some (.int x4), none, none, none, none, none]) (st1 := []) (σ1 := q13) rfl h15 ?_
            refine go_n 3 (f := (66, [some (.ref 60), some (.int x1), some (.int x2), some (.int x3), some (.int x4), none, none, none, none, none], [.int x2, .int x1, .ref 60], q13)) rfl ?_
            obtain ⟨q47, h48, hf⟩ := bnd hf
            refine go_c (mid := 12127) (args := [.ref 60, .int x1, .int x2]) (pc := 69) (L := [some (.ref 60), some (.int x1), some (.int x2), some (.int x3), some (.int x4), none, none, none, none, none]) (st := []) (σ := q13) rfl ((fX7_findLearned_ok _ _ _ q47 h48).deep (Nat.le_of_ble_eq_true rfl)) ?_
            refine go_m (f := (95, [none, none, none, none, none, none, none, none, none, none], [.int (if q47.1 ≠ 0 then (if x4 ≠ 0 then (gl q47.2 60 49).toInt32 else (gl q47.2 60 48).toInt32) else (-100000))], q47.2)) ?_ (fun hJ52 => ?_)
            · generalize hz51 : (if q47.1 ≠ 0 then (if x4 ≠ 0 then (gl q47.2 60 49).toInt32 else (gl q47.2 60 48).toInt32) else (-100000)) = z51 at hf ⊢
              try dsimp only at hf
              cases hf
              exact go_r rfl
            · by_cases h49 : q47.1 ≠ 0
              · refine go_it (t := 77) (f := 72) (L1 := [some (.ref 60), some (.int x1), some (.int x2), some (.int x3), some (.int x4), none, none, none, none, none]) (st1 := []) (σ1 := q47.2) rfl h49 ?_
                refine go_n 1 (f := (79, [some (.ref 60), some (.int x1), some (.int x2), some (.int x3), some (.int x4), none, none, none, none, none], [.int x4], q47.2)) rfl ?_
                by_cases h50 : x4 ≠ 0
                · refine go_it (t := 90) (f := 82) (L1 := [some (.ref 60), some (.int x1), some (.int x2), some (.int x3), some (.int x4), none, none, none, none, none]) (st1 := []) (σ1 := q47.2) rfl h50 ?_
                  refine go_n 3 (f := (95, [some (.ref 60), some (.int x1), some (.int x2), some (.int x3), some (.int x4), none, none, none, none, none], [.int (gl q47.2 60 49).toInt32], q47.2)) rfl ?_
                  refine go_e (L1 := [none, none, none, none, none, none, none, none, none, none]) rfl rfl ?_
                  simp only [if_pos h49, if_pos h50] at hJ52
                  first | exact hJ52 | (simp only [if_pos h49, if_pos h50]; exact hJ52)
                · refine go_if (t := 90) (f := 82) (L1 := [some (.ref 60), some (.int x1), some (.int x2), some (.int x3), some (.int x4), none, none, none, none, none]) (st1 := []) (σ1 := q47.2) rfl h50 ?_
                  refine go_n 4 (f := (95, [some (.ref 60), some (.int x1), some (.int x2), some (.int x3), some (.int x4), none, none, none, none, none], [.int (gl q47.2 60 48).toInt32], q47.2)) rfl ?_
                  refine go_e (L1 := [none, none, none, none, none, none, none, none, none, none]) rfl rfl ?_
                  simp only [if_pos h49, if_neg h50] at hJ52
                  first | exact hJ52 | (simp only [if_pos h49, if_neg h50]; exact hJ52)
              · refine go_if (t := 77) (f := 72) (L1 := [some (.ref 60), some (.int x1), some (.int x2), some (.int x3), some (.int x4), none, none, none, none, none]) (st1 := []) (σ1 := q47.2) rfl h49 ?_
                refine go_n 2 (f := (95, [some (.ref 60), some (.int x1), some (.int x2), some (.int x3), some (.int x4), none, none, none, none, none], [.int (-100000)], q47.2)) rfl ?_
                refine go_e (L1 := [none, none, none, none, none, none, none, none, none, none]) rfl rfl ?_
                simp only [if_neg h49] at hJ52
                first | exact hJ52 | (simp only [if_neg h49]; exact hJ52)
        · rw [if_neg h12] at hf
          refine go_if (t := 52) (f := 49) (L1 := [some (.ref 60), some (.int x1), some (.int x2), some (.int x3), some (.int x4), none, none, none, none, none]) (st1 := []) (σ1 := (wi σ 60 0 0)) rfl h12 ?_
          refine go_e (L1 := [none, none, none, none, none, none, none, none, none, none]) rfl rfl ?_
          refine go_n 1 (f := (51, [none, none, none, none, none, none, none, none, none, none], [.int (-100000)], (wi σ 60 0 0))) rfl ?_
          cases hf
          exact go_r rfl
/-! OldWeatherModel.rules(I)I -/
def fX7_rules_J23 (x1 : Int32)  (σ : Sg) : Option (Int32 × Sg) :=
  (fX7_isKnown x1).bind fun q4 => ((fun (z7 : Int32) => (fX7_told z7 (wi σ 60 14 0)).bind fun q8 => some (q8.1, q8.2)) ((if q4 = 0 then (-1) else (-5)) : Int32))
set_option maxHeartbeats 1500000 in
theorem fX7_rules_J23_ok (x1 : Int32)  (σ : Sg)  (r : (Int32 × Sg)) (hf : fX7_rules_J23 x1  σ = some r) : Go true 9 iX7_rules (23, [some (.ref 60), some (.int x1), none, none], [], σ) (.inl (some (.int (r).1)), (r).2) := by
  unfold fX7_rules_J23 at hf
  refine go_n 5 (f := (30, [some (.ref 60), some (.int x1), none, none], [.int x1, .ref 60], (wi σ 60 14 0))) rfl ?_
  obtain ⟨q4, h5, hf⟩ := bnd hf
  refine go_c (mid := 12057) (args := [.int x1]) (pc := 33) (L := [some (.ref 60), some (.int x1), none, none]) (st := [.ref 60]) (σ := (wi σ 60 14 0)) rfl ((fX7_isKnown_ok _ _ q4 h5).deep (Nat.le_of_ble_eq_true rfl)) ?_
  refine go_m (f := (42, [none, none, none, none], [.int ((if q4 = 0 then (-1) else (-5)) : Int32), .ref 60], (wi σ 60 14 0))) ?_ (fun hJ10 => ?_)
  · generalize hz7 : ((if q4 = 0 then (-1) else (-5)) : Int32) = z7 at hf ⊢
    try dsimp only at hf
    obtain ⟨q8, h9, hf⟩ := bnd hf
    refine go_c (mid := 12035) (args := [.ref 60, .int z7]) (pc := 45) (L := [none, none, none, none]) (st := []) (σ := (wi σ 60 14 0)) rfl ((fX7_told_ok _ _ q8 h9).deep (Nat.le_of_ble_eq_true rfl)) ?_
    cases hf
    exact go_r rfl
  · by_cases h6 : q4 = 0
    · refine go_it (t := 41) (f := 36) (L1 := [some (.ref 60), some (.int x1), none, none]) (st1 := [.ref 60]) (σ1 := (wi σ 60 14 0)) rfl h6 ?_
      refine go_n 1 (f := (42, [some (.ref 60), some (.int x1), none, none], [.int (-1), .ref 60], (wi σ 60 14 0))) rfl ?_
      refine go_e (L1 := [none, none, none, none]) rfl rfl ?_
      simp only [if_pos h6] at hJ10
      first | exact hJ10 | (simp only [if_pos h6]; exact hJ10)
    · refine go_if (t := 41) (f := 36) (L1 := [some (.ref 60), some (.int x1), none, none]) (st1 := [.ref 60]) (σ1 := (wi σ 60 14 0)) rfl h6 ?_
      refine go_n 2 (f := (42, [some (.ref 60), some (.int x1), none, none], [.int (-5), .ref 60], (wi σ 60 14 0))) rfl ?_
      refine go_e (L1 := [none, none, none, none]) rfl rfl ?_
      simp only [if_neg h6] at hJ10
      first | exact hJ10 | (simp only [if_neg h6]; exact hJ10)
def fX7_rules_L200 (x2 : Int32)  (rec200 : (Int32 × Sg) → Option (Int32 × Sg)) (s : Int32 × Sg) : Option (Int32 × Sg) :=
  match s with
  | (x3, σ) => if (gi σ 60 23) ≤ x3 then (fX7_told (((gi σ 61 3) + 1) - 1) (wi σ 61 3 ((gi σ 61 3) + 1))).bind fun q25 => some (q25.1, q25.2) else if inb x3 400 then if inb ((x2 + 146) + (2 * x3)) 39698 then if inb x3 400 then if inb (((x2 + 146) + (2 * x3)) + 1) 39698 then rec200 ((x3 + 1), (wi (wi σ 61 ((x2 + 146) + (2 * x3)).toNatClampNeg (gi σ 68 x3.toNatClampNeg)) 61 (((x2 + 146) + (2 * x3)) + 1).toNatClampNeg (gi σ 69 x3.toNatClampNeg))) else none else none else none else none
set_option maxHeartbeats 1500000 in
theorem fX7_rules_L200_ok (x2 : Int32)   : ∀ (n : Nat) (x3 : Int32) (σ : Sg) (r : (Int32 × Sg)), lp (fX7_rules_L200 x2 ) n (x3, σ) = some r → Go true 9 iX7_rules (200, [some (.ref 60), none, some (.int x2), some (.int x3)], [], σ) (.inl (some (.int (r).1)), (r).2) := by
  intro n
  induction n with
  | zero => intro x3 σ r hf; cases hf
  | succ n ih =>
    intro x3 σ r hf
    have hf : fX7_rules_L200 x2  (lp (fX7_rules_L200 x2 ) n) (x3, σ) = some r := hf
    have hrec200 := ih
    generalize lp (fX7_rules_L200 x2 ) n = rec200 at hf hrec200
    unfold fX7_rules_L200 at hf
    dsimp only at hf
    refine go_n 3 (f := (205, [some (.ref 60), none, some (.int x2), some (.int x3)], [.int (gi σ 60 23), .int x3], σ)) rfl ?_
    by_cases h24 : (gi σ 60 23) ≤ x3
    · rw [if_pos h24] at hf
      refine go_it (t := 256) (f := 208) (L1 := [some (.ref 60), none, some (.int x2), some (.int x3)]) (st1 := []) (σ1 := σ) rfl h24 ?_
      refine go_n 10 (f := (268, [some (.ref 60), none, some (.int x2), some (.int x3)], [.ref 60, .ref 60], (wi σ 61 3 ((gi σ 61 3) + 1)))) rfl ?_
      refine go_n 5 (f := (275, [some (.ref 60), none, some (.int x2), some (.int x3)], [.int (((gi σ 61 3) + 1) - 1), .ref 60], (wi σ 61 3 ((gi σ 61 3) + 1)))) rfl ?_
      obtain ⟨q25, h26, hf⟩ := bnd hf
      refine go_c (mid := 12035) (args := [.ref 60, .int (((gi σ 61 3) + 1) - 1)]) (pc := 278) (L := [some (.ref 60), none, some (.int x2), some (.int x3)]) (st := []) (σ := (wi σ 61 3 ((gi σ 61 3) + 1))) rfl ((fX7_told_ok _ _ q25 h26).deep (Nat.le_of_ble_eq_true rfl)) ?_
      cases hf
      exact go_r rfl
    · rw [if_neg h24] at hf
      refine go_if (t := 256) (f := 208) (L1 := [some (.ref 60), none, some (.int x2), some (.int x3)]) (st1 := []) (σ1 := σ) rfl h24 ?_
      refine go_n 10 (f := (222, [some (.ref 60), none, some (.int x2), some (.int x3)], [.ref 60, .int ((x2 + 146) + (2 * x3)), .ref 61], σ)) rfl ?_
      refine go_n 2 (f := (226, [some (.ref 60), none, some (.int x2), some (.int x3)], [.int x3, .ref 68, .int ((x2 + 146) + (2 * x3)), .ref 61], σ)) rfl ?_
      obtain ⟨h27, hf⟩ := grd hf
      refine go_iald rfl rfl rfl h27 ?_
      obtain ⟨h28, hf⟩ := grd hf
      refine go_iast rfl rfl rfl h28 ?_
      refine go_n 10 (f := (242, [some (.ref 60), none, some (.int x2), some (.int x3)], [.int 1, .int ((x2 + 146) + (2 * x3)), .ref 61], (wi σ 61 ((x2 + 146) + (2 * x3)).toNatClampNeg (gi σ 68 x3.toNatClampNeg)))) rfl ?_
      refine go_n 4 (f := (248, [some (.ref 60), none, some (.int x2), some (.int x3)], [.int x3, .ref 69, .int (((x2 + 146) + (2 * x3)) + 1), .ref 61], (wi σ 61 ((x2 + 146) + (2 * x3)).toNatClampNeg (gi σ 68 x3.toNatClampNeg)))) rfl ?_
      obtain ⟨h29, hf⟩ := grd hf
      refine go_iald rfl rfl rfl h29 ?_
      obtain ⟨h30, hf⟩ := grd hf
      refine go_iast rfl rfl rfl h30 ?_
      refine go_n 2 (f := (200, [some (.ref 60), none, some (.int x2), some (.int (x3 + 1))], [], (wi (wi σ 61 ((x2 + 146) + (2 * x3)).toNatClampNeg (gi σ 68 x3.toNatClampNeg)) 61 (((x2 + 146) + (2 * x3)) + 1).toNatClampNeg (gi σ 69 x3.toNatClampNeg)))) rfl ?_
      exact hrec200 _ _ _ hf
def fX7_rules_L165 (x2 : Int32)  (rec165 : (Int32 × Sg) → Option (Int32 × Sg)) (s : Int32 × Sg) : Option (Int32 × Sg) :=
  match s with
  | (x3, σ) => if (12 * (gi σ 60 21)) ≤ x3 then lp (fX7_rules_L200 x2 ) N0 (0, σ) else if inb x3 144 then if inb ((x2 + 2) + x3) 39698 then rec165 ((x3 + 1), (wi σ 61 ((x2 + 2) + x3).toNatClampNeg (gi σ 67 x3.toNatClampNeg))) else none else none
set_option maxHeartbeats 1500000 in
theorem fX7_rules_L165_ok (x2 : Int32)   : ∀ (n : Nat) (x3 : Int32) (σ : Sg) (r : (Int32 × Sg)), lp (fX7_rules_L165 x2 ) n (x3, σ) = some r → Go true 9 iX7_rules (165, [some (.ref 60), none, some (.int x2), some (.int x3)], [], σ) (.inl (some (.int (r).1)), (r).2) := by
  intro n
  induction n with
  | zero => intro x3 σ r hf; cases hf
  | succ n ih =>
    intro x3 σ r hf
    have hf : fX7_rules_L165 x2  (lp (fX7_rules_L165 x2 ) n) (x3, σ) = some r := hf
    have hrec165 := ih
    generalize lp (fX7_rules_L165 x2 ) n = rec165 at hf hrec165
    unfold fX7_rules_L165 at hf
    dsimp only at hf
    refine go_n 5 (f := (173, [some (.ref 60), none, some (.int x2), some (.int x3)], [.int (12 * (gi σ 60 21)), .int x3], σ)) rfl ?_
    by_cases h23 : (12 * (gi σ 60 21)) ≤ x3
    · rw [if_pos h23] at hf
      refine go_it (t := 198) (f := 176) (L1 := [some (.ref 60), none, some (.int x2), some (.int x3)]) (st1 := []) (σ1 := σ) rfl h23 ?_
      refine go_n 2 (f := (200, [some (.ref 60), none, some (.int x2), some (.int 0)], [], σ)) rfl ?_
      exact fX7_rules_L200_ok _   N0 _ _ _ hf
    · rw [if_neg h23] at hf
      refine go_if (t := 198) (f := 176) (L1 := [some (.ref 60), none, some (.int x2), some (.int x3)]) (st1 := []) (σ1 := σ) rfl h23 ?_
      refine go_n 10 (f := (190, [some (.ref 60), none, some (.int x2), some (.int x3)], [.int x3, .ref 67, .int ((x2 + 2) + x3), .ref 61], σ)) rfl ?_
      obtain ⟨h31, hf⟩ := grd hf
      refine go_iald rfl rfl rfl h31 ?_
      obtain ⟨h32, hf⟩ := grd hf
      refine go_iast rfl rfl rfl h32 ?_
      refine go_n 2 (f := (165, [some (.ref 60), none, some (.int x2), some (.int (x3 + 1))], [], (wi σ 61 ((x2 + 2) + x3).toNatClampNeg (gi σ 67 x3.toNatClampNeg)))) rfl ?_
      exact hrec165 _ _ _ hf
def fX7_rules_J115 (x1 : Int32)  (σ : Sg) : Option (Int32 × Sg) :=
  if (gi σ 60 20) = 0 then (fX7_textAt (gi σ 61 3)).bind fun q19 => if inb q19 39698 then if inb (q19 + 1) 39698 then lp (fX7_rules_L165 q19 ) N0 (0, (wi (wi (wi σ 60 14 0) 61 q19.toNatClampNeg x1) 61 (q19 + 1).toNatClampNeg (gi σ 60 21))) else none else none else (fX7_told (-6) (wi σ 60 14 0)).bind fun q33 => some (q33.1, q33.2)
set_option maxHeartbeats 1500000 in
theorem fX7_rules_J115_ok (x1 : Int32)  (σ : Sg)  (r : (Int32 × Sg)) (hf : fX7_rules_J115 x1  σ = some r) : Go true 9 iX7_rules (115, [some (.ref 60), some (.int x1), none, none], [], σ) (.inl (some (.int (r).1)), (r).2) := by
  unfold fX7_rules_J115 at hf
  refine go_n 5 (f := (124, [some (.ref 60), some (.int x1), none, none], [.int (gi σ 60 20)], (wi σ 60 14 0))) rfl ?_
  by_cases h18 : (gi σ 60 20) = 0
  · rw [if_pos h18] at hf
    refine go_it (t := 134) (f := 127) (L1 := [some (.ref 60), some (.int x1), none, none]) (st1 := []) (σ1 := (wi σ 60 14 0)) rfl h18 ?_
    refine go_n 4 (f := (140, [some (.ref 60), some (.int x1), none, none], [.int (gi σ 61 3)], (wi σ 60 14 0))) rfl ?_
    obtain ⟨q19, h20, hf⟩ := bnd hf
    refine go_c (mid := 12105) (args := [.int (gi σ 61 3)]) (pc := 143) (L := [some (.ref 60), some (.int x1), none, none]) (st := []) (σ := (wi σ 60 14 0)) rfl ((fX7_textAt_ok _ _ q19 h20).deep (Nat.le_of_ble_eq_true rfl)) ?_
    refine go_n 5 (f := (150, [some (.ref 60), some (.int x1), some (.int q19), none], [.int x1, .int q19, .ref 61], (wi σ 60 14 0))) rfl ?_
    obtain ⟨h21, hf⟩ := grd hf
    refine go_iast rfl rfl rfl h21 ?_
    refine go_n 7 (f := (162, [some (.ref 60), some (.int x1), some (.int q19), none], [.int (gi σ 60 21), .int (q19 + 1), .ref 61], (wi (wi σ 60 14 0) 61 q19.toNatClampNeg x1))) rfl ?_
    obtain ⟨h22, hf⟩ := grd hf
    refine go_iast rfl rfl rfl h22 ?_
    refine go_n 2 (f := (165, [some (.ref 60), some (.int x1), some (.int q19), some (.int 0)], [], (wi (wi (wi σ 60 14 0) 61 q19.toNatClampNeg x1) 61 (q19 + 1).toNatClampNeg (gi σ 60 21)))) rfl ?_
    refine go_e (L1 := [some (.ref 60), none, some (.int q19), some (.int 0)]) rfl rfl ?_
    exact fX7_rules_L165_ok _   N0 _ _ _ hf
  · rw [if_neg h18] at hf
    refine go_if (t := 134) (f := 127) (L1 := [some (.ref 60), some (.int x1), none, none]) (st1 := []) (σ1 := (wi σ 60 14 0)) rfl h18 ?_
    refine go_n 2 (f := (130, [some (.ref 60), some (.int x1), none, none], [.int (-6), .ref 60], (wi σ 60 14 0))) rfl ?_
    obtain ⟨q33, h34, hf⟩ := bnd hf
    refine go_c (mid := 12035) (args := [.ref 60, .int (-6)]) (pc := 133) (L := [some (.ref 60), some (.int x1), none, none]) (st := []) (σ := (wi σ 60 14 0)) rfl ((fX7_told_ok _ _ q33 h34).deep (Nat.le_of_ble_eq_true rfl)) ?_
    cases hf
    exact go_r rfl
def fX7_rules_J96 (x1 : Int32)  (σ : Sg) : Option (Int32 × Sg) :=
  if (gi σ 60 20) ≠ 0 then fX7_rules_J115 x1  σ else if (gi σ 60 17) = 0 then fX7_rules_J115 x1  σ else (fX7_must 0 σ).bind fun q36 => fX7_rules_J115 x1  q36
set_option maxHeartbeats 1500000 in
theorem fX7_rules_J96_ok (x1 : Int32)  (σ : Sg)  (r : (Int32 × Sg)) (hf : fX7_rules_J96 x1  σ = some r) : Go true 9 iX7_rules (96, [some (.ref 60), some (.int x1), none, none], [], σ) (.inl (some (.int (r).1)), (r).2) := by
  unfold fX7_rules_J96 at hf
  refine go_n 2 (f := (100, [some (.ref 60), some (.int x1), none, none], [.int (gi σ 60 20)], σ)) rfl ?_
  by_cases h17 : (gi σ 60 20) ≠ 0
  · rw [if_pos h17] at hf
    refine go_it (t := 115) (f := 103) (L1 := [some (.ref 60), some (.int x1), none, none]) (st1 := []) (σ1 := σ) rfl h17 ?_
    exact fX7_rules_J115_ok _  _  _ hf
  · rw [if_neg h17] at hf
    refine go_if (t := 115) (f := 103) (L1 := [some (.ref 60), some (.int x1), none, none]) (st1 := []) (σ1 := σ) rfl h17 ?_
    refine go_n 2 (f := (107, [some (.ref 60), some (.int x1), none, none], [.int (gi σ 60 17)], σ)) rfl ?_
    by_cases h35 : (gi σ 60 17) = 0
    · rw [if_pos h35] at hf
      refine go_it (t := 115) (f := 110) (L1 := [some (.ref 60), some (.int x1), none, none]) (st1 := []) (σ1 := σ) rfl h35 ?_
      exact fX7_rules_J115_ok _  _  _ hf
    · rw [if_neg h35] at hf
      refine go_if (t := 115) (f := 110) (L1 := [some (.ref 60), some (.int x1), none, none]) (st1 := []) (σ1 := σ) rfl h35 ?_
      refine go_n 2 (f := (112, [some (.ref 60), some (.int x1), none, none], [.int 0, .ref 60], σ)) rfl ?_
      obtain ⟨q36, h37, hf⟩ := bnd hf
      refine go_c (mid := 12086) (args := [.ref 60, .int 0]) (pc := 115) (L := [some (.ref 60), some (.int x1), none, none]) (st := []) (σ := σ) rfl ((fX7_must_ok _ _ q36 h37).deep (Nat.le_of_ble_eq_true rfl)) ?_
      exact fX7_rules_J115_ok _  _  _ hf
def fX7_rules_L69 (x1 : Int32)  (rec69 : Sg → Option (Int32 × Sg)) (σ : Sg) : Option (Int32 × Sg) :=
  if (gi σ 60 20) ≠ 0 then fX7_rules_J96 x1  σ else (fX7_isSign 59 σ).bind fun q38 => if q38 = 0 then fX7_rules_J96 x1  σ else (fX7_next  σ).bind fun q41 => (fX7_readClause  q41).bind fun q43 => rec69 q43
set_option maxHeartbeats 1500000 in
theorem fX7_rules_L69_ok (x1 : Int32)   : ∀ (n : Nat) (σ : Sg) (r : (Int32 × Sg)), lp (fX7_rules_L69 x1 ) n σ = some r → Go true 9 iX7_rules (69, [some (.ref 60), some (.int x1), none, none], [], σ) (.inl (some (.int (r).1)), (r).2) := by
  intro n
  induction n with
  | zero => intro σ r hf; cases hf
  | succ n ih =>
    intro σ r hf
    have hf : fX7_rules_L69 x1  (lp (fX7_rules_L69 x1 ) n) σ = some r := hf
    have hrec69 := ih
    generalize lp (fX7_rules_L69 x1 ) n = rec69 at hf hrec69
    unfold fX7_rules_L69 at hf
    refine go_n 2 (f := (73, [some (.ref 60), some (.int x1), none, none], [.int (gi σ 60 20)], σ)) rfl ?_
    by_cases h16 : (gi σ 60 20) ≠ 0
    · rw [if_pos h16] at hf
      refine go_it (t := 96) (f := 76) (L1 := [some (.ref 60), some (.int x1), none, none]) (st1 := []) (σ1 := σ) rfl h16 ?_
      exact fX7_rules_J96_ok _  _  _ hf
    · rw [if_neg h16] at hf
      refine go_if (t := 96) (f := 76) (L1 := [some (.ref 60), some (.int x1), none, none]) (st1 := []) (σ1 := σ) rfl h16 ?_
      refine go_n 2 (f := (79, [some (.ref 60), some (.int x1), none, none], [.int 59, .ref 60], σ)) rfl ?_
      obtain ⟨q38, h39, hf⟩ := bnd hf
      refine go_c (mid := 12094) (args := [.ref 60, .int 59]) (pc := 82) (L := [some (.ref 60), some (.int x1), none, none]) (st := []) (σ := σ) rfl ((fX7_isSign_ok _ _ q38 h39).deep (Nat.le_of_ble_eq_true rfl)) ?_
      by_cases h40 : q38 = 0
      · rw [if_pos h40] at hf
        refine go_it (t := 96) (f := 85) (L1 := [some (.ref 60), some (.int x1), none, none]) (st1 := []) (σ1 := σ) rfl h40 ?_
        exact fX7_rules_J96_ok _  _  _ hf
      · rw [if_neg h40] at hf
        refine go_if (t := 96) (f := 85) (L1 := [some (.ref 60), some (.int x1), none, none]) (st1 := []) (σ1 := σ) rfl h40 ?_
        refine go_n 1 (f := (86, [some (.ref 60), some (.int x1), none, none], [.ref 60], σ)) rfl ?_
        obtain ⟨q41, h42, hf⟩ := bnd hf
        refine go_c (mid := 12080) (args := [.ref 60]) (pc := 89) (L := [some (.ref 60), some (.int x1), none, none]) (st := []) (σ := σ) rfl ((fX7_next_ok _ q41 h42).deep (Nat.le_of_ble_eq_true rfl)) ?_
        refine go_n 1 (f := (90, [some (.ref 60), some (.int x1), none, none], [.ref 60], q41)) rfl ?_
        obtain ⟨q43, h44, hf⟩ := bnd hf
        refine go_c (mid := 12083) (args := [.ref 60]) (pc := 93) (L := [some (.ref 60), some (.int x1), none, none]) (st := []) (σ := q41) rfl ((fX7_readClause_ok _ q43 h44).deep (Nat.le_of_ble_eq_true rfl)) ?_
        refine go_n 1 (f := (69, [some (.ref 60), some (.int x1), none, none], [], q43)) rfl ?_
        exact hrec69 _ _ hf
def fX7_rules (x1 : Int32) (σ : Sg) : Option (Int32 × Sg) :=
  (fX7_isKnown x1).bind fun q1 => if q1 = 0 then fX7_rules_J23 x1  (wi σ 60 0 0) else if (gi σ 61 3) ≠ 20 then (fX7_begin  (wi σ 60 0 0)).bind fun q12 => (fX7_readClause  (wi (wi (wi q12 60 21 0) 60 23 0) 60 26 0)).bind fun q14 => lp (fX7_rules_L69 x1 ) N0 q14 else fX7_rules_J23 x1  (wi σ 60 0 0)
set_option maxHeartbeats 1500000 in
theorem fX7_rules_ok (x1 : Int32) (σ : Sg) (r : (Int32 × Sg)) (hf : fX7_rules x1 σ = some r) : Cl true 9 12078 [.ref 60, .int x1] σ (.inl (some (.int (r).1)), (r).2) := by
  refine ⟨iX7_rules, rfl, Nat.le_of_ble_eq_true rfl, Nat.le_of_ble_eq_true rfl, ?_⟩
  show Go true 9 iX7_rules (0, [some (.ref 60), some (.int x1), none, none], [], σ) (.inl (some (.int (r).1)), (r).2)
  unfold fX7_rules at hf
  refine go_n 4 (f := (6, [some (.ref 60), some (.int x1), none, none], [.int x1], (wi σ 60 0 0))) rfl ?_
  obtain ⟨q1, h2, hf⟩ := bnd hf
  refine go_c (mid := 12057) (args := [.int x1]) (pc := 9) (L := [some (.ref 60), some (.int x1), none, none]) (st := []) (σ := (wi σ 60 0 0)) rfl ((fX7_isKnown_ok _ _ q1 h2).deep (Nat.le_of_ble_eq_true rfl)) ?_
  by_cases h3 : q1 = 0
  · rw [if_pos h3] at hf
    refine go_it (t := 23) (f := 12) (L1 := [some (.ref 60), some (.int x1), none, none]) (st1 := []) (σ1 := (wi σ 60 0 0)) rfl h3 ?_
    exact fX7_rules_J23_ok _  _  _ hf
  · rw [if_neg h3] at hf
    refine go_if (t := 23) (f := 12) (L1 := [some (.ref 60), some (.int x1), none, none]) (st1 := []) (σ1 := (wi σ 60 0 0)) rfl h3 ?_
    refine go_n 5 (f := (20, [some (.ref 60), some (.int x1), none, none], [.int 20, .int (gi σ 61 3)], (wi σ 60 0 0))) rfl ?_
    by_cases h11 : (gi σ 61 3) ≠ 20
    · rw [if_pos h11] at hf
      refine go_it (t := 46) (f := 23) (L1 := [some (.ref 60), some (.int x1), none, none]) (st1 := []) (σ1 := (wi σ 60 0 0)) rfl h11 ?_
      refine go_n 1 (f := (47, [some (.ref 60), some (.int x1), none, none], [.ref 60], (wi σ 60 0 0))) rfl ?_
      obtain ⟨q12, h13, hf⟩ := bnd hf
      refine go_c (mid := 12079) (args := [.ref 60]) (pc := 50) (L := [some (.ref 60), some (.int x1), none, none]) (st := []) (σ := (wi σ 60 0 0)) rfl ((fX7_begin_ok _ q12 h13).deep (Nat.le_of_ble_eq_true rfl)) ?_
      refine go_n 6 (f := (60, [some (.ref 60), some (.int x1), none, none], [], (wi (wi q12 60 21 0) 60 23 0))) rfl ?_
      refine go_n 4 (f := (66, [some (.ref 60), some (.int x1), none, none], [.ref 60], (wi (wi (wi q12 60 21 0) 60 23 0) 60 26 0))) rfl ?_
      obtain ⟨q14, h15, hf⟩ := bnd hf
      refine go_c (mid := 12083) (args := [.ref 60]) (pc := 69) (L := [some (.ref 60), some (.int x1), none, none]) (st := []) (σ := (wi (wi (wi q12 60 21 0) 60 23 0) 60 26 0)) rfl ((fX7_readClause_ok _ q14 h15).deep (Nat.le_of_ble_eq_true rfl)) ?_
      exact fX7_rules_L69_ok _   N0 _ _ hf
    · rw [if_neg h11] at hf
      refine go_if (t := 46) (f := 23) (L1 := [some (.ref 60), some (.int x1), none, none]) (st1 := []) (σ1 := (wi σ 60 0 0)) rfl h11 ?_
      exact fX7_rules_J23_ok _  _  _ hf
/-! OldWeatherModel.findBounds(II)Z -/
def fX7_findBounds_L10 (x2 : Int32) (σ : Sg)  (rec10 : (Int32 × Int32) → Option (Int32 × Sg)) (s : Int32 × Int32) : Option (Int32 × Sg) :=
  match s with
  | (x3, x4) => (fX7_get x3 0 σ).bind fun q1 => if q1 ≠ 4 then (fX7_get x3 0 σ).bind fun q4 => if q4 ≠ 2 then if q4 ≠ 1 then if q4 ≠ 3 then (fX7_sourceOf x3 σ).bind fun q9 => (fX7_handOf q9 σ).bind fun q11 => (fX7_get x3 5 σ).bind fun q13 => (fX7_find 1 q11 q13 x3 x2 σ).bind fun q15 => if q15.1 = 0 then (fX7_get x3 5 q15.2).bind fun q18 => (fX7_findLearned q11 q18 q15.2).bind fun q20 => if q20.1 = 0 then some (0, q20.2) else (fX7_keepSpan (gl q20.2 60 48) (gl q20.2 60 49) q20.2).bind fun q23 => ((fun (z26 : Int32) => some (z26, q23.2)) ((if q23.1 = 0 then 0 else 1) : Int32)) else (fX7_keepSpan (gl q15.2 60 38) (gl q15.2 60 39) (wi q15.2 60 43 (gi q15.2 60 40))).bind fun q28 => if am_ok 3 q28.1 = true then some (q28.1, q28.2) else none else (fX7_get x3 8 σ).bind fun q31 => (fX7_find 5 q31 0 x3 x2 σ).bind fun q33 => if q33.1 ≠ 0 then ((fun (z37 : Int64) => (fX7_keepSpan ((gl q33.2 60 38) - z37) ((gl q33.2 60 38) + z37) (wi q33.2 60 43 (gi q33.2 60 40))).bind fun q38 => if am_ok 3 q38.1 = true then some (q38.1, q38.2) else none) (if 0 ≤ (gl q33.2 60 39) then (gl q33.2 60 39) else (-(gl q33.2 60 39)))) else some (0, q33.2) else (fX7_putRight x3 x2 σ).bind fun q42 => (fX7_find 2 0 0 x3 x2 (wi q42.2 60 44 q42.1.toInt32)).bind fun q44 => ((fun (z48 : Int64) => ((fun (z50 : Int32) => (fX7_keepSpan (q42.1 - z48) (q42.1 + z48) (wi q44.2 60 43 z50)).bind fun q51 => if am_ok 3 q51.1 = true then some (q51.1, q51.2) else none) (if q44.1 = 0 then (-1) else (gi q44.2 60 40)))) (if q44.1 = 0 then 20 else (if 0 ≤ (gl q44.2 60 38) then (gl q44.2 60 38) else (-(gl q44.2 60 38))))) else some (0, σ) else (fX7_get x3 8 σ).bind fun q56 => if 10 < (x4 + 1) then some (0, σ) else (fX7_isTold q56 σ).bind fun q59 => if q59 ≠ 0 then rec10 (q56, (x4 + 1)) else some (0, σ)
set_option maxHeartbeats 1500000 in
theorem fX7_findBounds_L10_ok (x2 : Int32) (σ : Sg)   : ∀ (n : Nat) (x3 : Int32) (x4 : Int32) (r : (Int32 × Sg)), lp (fX7_findBounds_L10 x2 σ ) n (x3, x4) = some r → Go true 9 iX7_findBounds (10, [some (.ref 60), none, some (.int x2), some (.int x3), some (.int x4), none, none, none, none, none, none], [], σ) (.inl (some (.int (r).1)), (r).2) := by
  intro n
  induction n with
  | zero => intro x3 x4 r hf; cases hf
  | succ n ih =>
    intro x3 x4 r hf
    have hf : fX7_findBounds_L10 x2 σ  (lp (fX7_findBounds_L10 x2 σ ) n) (x3, x4) = some r := hf
    have hrec10 := ih
    generalize lp (fX7_findBounds_L10 x2 σ ) n = rec10 at hf hrec10
    unfold fX7_findBounds_L10 at hf
    dsimp only at hf
    refine go_n 3 (f := (13, [some (.ref 60), none, some (.int x2), some (.int x3), some (.int x4), none, none, none, none, none, none], [.int 0, .int x3, .ref 60], σ)) rfl ?_
    obtain ⟨q1, h2, hf⟩ := bnd hf
    refine go_c (mid := 12067) (args := [.ref 60, .int x3, .int 0]) (pc := 16) (L := [some (.ref 60), none, some (.int x2), some (.int x3), some (.int x4), none, none, none, none, none, none]) (st := []) (σ := σ) rfl ((fX7_get_ok _ _ _ q1 h2).deep (Nat.le_of_ble_eq_true rfl)) ?_
    refine go_n 1 (f := (17, [some (.ref 60), none, some (.int x2), some (.int x3), some (.int x4), none, none, none, none, none, none], [.int 4, .int q1], σ)) rfl ?_
    by_cases h3 : q1 ≠ 4
    · rw [if_pos h3] at hf
      refine go_it (t := 48) (f := 20) (L1 := [some (.ref 60), none, some (.int x2), some (.int x3), some (.int x4), none, none, none, none, none, none]) (st1 := []) (σ1 := σ) rfl h3 ?_
      refine go_n 3 (f := (51, [some (.ref 60), none, some (.int x2), some (.int x3), some (.int x4), none, none, none, none, none, none], [.int 0, .int x3, .ref 60], σ)) rfl ?_
      obtain ⟨q4, h5, hf⟩ := bnd hf
      refine go_c (mid := 12067) (args := [.ref 60, .int x3, .int 0]) (pc := 54) (L := [some (.ref 60), none, some (.int x2), some (.int x3), some (.int x4), none, none, none, none, none, none]) (st := []) (σ := σ) rfl ((fX7_get_ok _ _ _ q4 h5).deep (Nat.le_of_ble_eq_true rfl)) ?_
      refine go_n 3 (f := (59, [some (.ref 60), none, some (.int x2), some (.int x3), some (.int x4), some (.int q4), none, none, none, none, none], [.int 2, .int q4], σ)) rfl ?_
      by_cases h6 : q4 ≠ 2
      · rw [if_pos h6] at hf
        refine go_it (t := 64) (f := 62) (L1 := [some (.ref 60), none, some (.int x2), some (.int x3), some (.int x4), some (.int q4), none, none, none, none, none]) (st1 := []) (σ1 := σ) rfl h6 ?_
        refine go_n 2 (f := (67, [some (.ref 60), none, some (.int x2), some (.int x3), some (.int x4), some (.int q4), none, none, none, none, none], [.int 1, .int q4], σ)) rfl ?_
        by_cases h7 : q4 ≠ 1
        · rw [if_pos h7] at hf
          refine go_it (t := 162) (f := 70) (L1 := [some (.ref 60), none, some (.int x2), some (.int x3), some (.int x4), some (.int q4), none, none, none, none, none]) (st1 := []) (σ1 := σ) rfl h7 ?_
          refine go_n 2 (f := (165, [some (.ref 60), none, some (.int x2), some (.int x3), some (.int x4), some (.int q4), none, none, none, none, none], [.int 3, .int q4], σ)) rfl ?_
          by_cases h8 : q4 ≠ 3
          · rw [if_pos h8] at hf
            refine go_it (t := 238) (f := 168) (L1 := [some (.ref 60), none, some (.int x2), some (.int x3), some (.int x4), some (.int q4), none, none, none, none, none]) (st1 := []) (σ1 := σ) rfl h8 ?_
            refine go_n 3 (f := (241, [some (.ref 60), none, some (.int x2), some (.int x3), some (.int x4), some (.int q4), none, none, none, none, none], [.int x3, .ref 60, .ref 60], σ)) rfl ?_
            obtain ⟨q9, h10, hf⟩ := bnd hf
            refine go_c (mid := 12066) (args := [.ref 60, .int x3]) (pc := 244) (L := [some (.ref 60), none, some (.int x2), some (.int x3), some (.int x4), some (.int q4), none, none, none, none, none]) (st := [.ref 60]) (σ := σ) rfl ((fX7_sourceOf_ok _ _ q9 h10).deep (Nat.le_of_ble_eq_true rfl)) ?_
            obtain ⟨q11, h12, hf⟩ := bnd hf
            refine go_c (mid := 12121) (args := [.ref 60, .int q9]) (pc := 247) (L := [some (.ref 60), none, some (.int x2), some (.int x3), some (.int x4), some (.int q4), none, none, none, none, none]) (st := []) (σ := σ) rfl ((fX7_handOf_ok _ _ q11 h12).deep (Nat.le_of_ble_eq_true rfl)) ?_
            refine go_n 7 (f := (256, [some (.ref 60), none, some (.int x2), some (.int x3), some (.int x4), some (.int q4), some (.int q11), none, none, none, none], [.int 5, .int x3, .ref 60, .int q11, .int 1, .ref 60], σ)) rfl ?_
            obtain ⟨q13, h14, hf⟩ := bnd hf
            refine go_c (mid := 12067) (args := [.ref 60, .int x3, .int 5]) (pc := 259) (L := [some (.ref 60), none, some (.int x2), some (.int x3), some (.int x4), some (.int q4), some (.int q11), none, none, none, none]) (st := [.int q11, .int 1, .ref 60]) (σ := σ) rfl ((fX7_get_ok _ _ _ q13 h14).deep (Nat.le_of_ble_eq_true rfl)) ?_
            refine go_n 2 (f := (261, [some (.ref 60), none, some (.int x2), some (.int x3), some (.int x4), some (.int q4), some (.int q11), none, none, none, none], [.int x2, .int x3, .int q13, .int q11, .int 1, .ref 60], σ)) rfl ?_
            obtain ⟨q15, h16, hf⟩ := bnd hf
            refine go_c (mid := 12118) (args := [.ref 60, .int 1, .int q11, .int q13, .int x3, .int x2]) (pc := 264) (L := [some (.ref 60), none, some (.int x2), some (.int x3), some (.int x4), some (.int q4), some (.int q11), none, none, none, none]) (st := []) (σ := σ) rfl ((fX7_find_ok _ _ _ _ _ _ q15 h16).deep (Nat.le_of_ble_eq_true rfl)) ?_
            by_cases h17 : q15.1 = 0
            · rw [if_pos h17] at hf
              refine go_it (t := 288) (f := 267) (L1 := [some (.ref 60), none, some (.int x2), some (.int x3), some (.int x4), some (.int q4), some (.int q11), none, none, none, none]) (st1 := []) (σ1 := q15.2) rfl h17 ?_
              refine go_n 5 (f := (294, [some (.ref 60), none, some (.int x2), some (.int x3), some (.int x4), some (.int q4), some (.int q11), none, none, none, none], [.int 5, .int x3, .ref 60, .int q11, .ref 60], q15.2)) rfl ?_
              obtain ⟨q18, h19, hf⟩ := bnd hf
              refine go_c (mid := 12067) (args := [.ref 60, .int x3, .int 5]) (pc := 297) (L := [some (.ref 60), none, some (.int x2), some (.int x3), some (.int x4), some (.int q4), some (.int q11), none, none, none, none]) (st := [.int q11, .ref 60]) (σ := q15.2) rfl ((fX7_get_ok _ _ _ q18 h19).deep (Nat.le_of_ble_eq_true rfl)) ?_
              obtain ⟨q20, h21, hf⟩ := bnd hf
              refine go_c (mid := 12127) (args := [.ref 60, .int q11, .int q18]) (pc := 300) (L := [some (.ref 60), none, some (.int x2), some (.int x3), some (.int x4), some (.int q4), some (.int q11), none, none, none, none]) (st := []) (σ := q15.2) rfl ((fX7_findLearned_ok _ _ _ q20 h21).deep (Nat.le_of_ble_eq_true rfl)) ?_
              by_cases h22 : q20.1 = 0
              · rw [if_pos h22] at hf
                refine go_it (t := 322) (f := 303) (L1 := [some (.ref 60), none, some (.int x2), some (.int x3), some (.int x4), some (.int q4), some (.int q11), none, none, none, none]) (st1 := []) (σ1 := q20.2) rfl h22 ?_
                refine go_e (L1 := [none, none, none, none, none, none, none, none, none, none, none]) rfl rfl ?_
                refine go_n 1 (f := (323, [none, none, none, none, none, none, none, none, none, none, none], [.int 0], q20.2)) rfl ?_
                cases hf
                exact go_r rfl
              · rw [if_neg h22] at hf
                refine go_if (t := 322) (f := 303) (L1 := [some (.ref 60), none, some (.int x2), some (.int x3), some (.int x4), some (.int q4), some (.int q11), none, none, none, none]) (st1 := []) (σ1 := q20.2) rfl h22 ?_
                refine go_n 5 (f := (312, [some (.ref 60), none, some (.int x2), some (.int x3), some (.int x4), some (.int q4), some (.int q11), none, none, none, none], [.long (gl q20.2 60 49), .long (gl q20.2 60 48), .ref 60], q20.2)) rfl ?_
                obtain ⟨q23, h24, hf⟩ := bnd hf
                refine go_c (mid := 12125) (args := [.ref 60, .long (gl q20.2 60 48), .long (gl q20.2 60 49)]) (pc := 315) (L := [some (.ref 60), none, some (.int x2), some (.int x3), some (.int x4), some (.int q4), some (.int q11), none, none, none, none]) (st := []) (σ := q20.2) rfl ((fX7_keepSpan_ok _ _ _ q23 h24).deep (Nat.le_of_ble_eq_true rfl)) ?_
                refine go_m (f := (323, [none, none, none, none, none, none, none, none, none, none, none], [.int ((if q23.1 = 0 then 0 else 1) : Int32)], q23.2)) ?_ (fun hJ27 => ?_)
                · generalize hz26 : ((if q23.1 = 0 then 0 else 1) : Int32) = z26 at hf ⊢
                  have oz26 : am_ok 3 z26 = true := hz26 ▸ (okb rfl rfl)
                  try dsimp only at hf
                  cases hf
                  exact go_ret rfl rfl (Or.inr (Or.inl ⟨rfl, oz26⟩))
                · by_cases h25 : q23.1 = 0
                  · refine go_it (t := 322) (f := 318) (L1 := [some (.ref 60), none, some (.int x2), some (.int x3), some (.int x4), some (.int q4), some (.int q11), none, none, none, none]) (st1 := []) (σ1 := q23.2) rfl h25 ?_
                    refine go_e (L1 := [none, none, none, none, none, none, none, none, none, none, none]) rfl rfl ?_
                    refine go_n 1 (f := (323, [none, none, none, none, none, none, none, none, none, none, none], [.int 0], q23.2)) rfl ?_
                    refine go_e (L1 := [none, none, none, none, none, none, none, none, none, none, none]) rfl rfl ?_
                    simp only [if_pos h25] at hJ27
                    first | exact hJ27 | (simp only [if_pos h25]; exact hJ27)
                  · refine go_if (t := 322) (f := 318) (L1 := [some (.ref 60), none, some (.int x2), some (.int x3), some (.int x4), some (.int q4), some (.int q11), none, none, none, none]) (st1 := []) (σ1 := q23.2) rfl h25 ?_
                    refine go_n 2 (f := (323, [some (.ref 60), none, some (.int x2), some (.int x3), some (.int x4), some (.int q4), some (.int q11), none, none, none, none], [.int 1], q23.2)) rfl ?_
                    refine go_e (L1 := [none, none, none, none, none, none, none, none, none, none, none]) rfl rfl ?_
                    simp only [if_neg h25] at hJ27
                    first | exact hJ27 | (simp only [if_neg h25]; exact hJ27)
            · rw [if_neg h17] at hf
              refine go_if (t := 288) (f := 267) (L1 := [some (.ref 60), none, some (.int x2), some (.int x3), some (.int x4), some (.int q4), some (.int q11), none, none, none, none]) (st1 := []) (σ1 := q15.2) rfl h17 ?_
              refine go_n 9 (f := (284, [some (.ref 60), none, some (.int x2), some (.int x3), some (.int x4), some (.int q4), some (.int q11), none, none, none, none], [.long (gl q15.2 60 39), .long (gl q15.2 60 38), .ref 60], (wi q15.2 60 43 (gi q15.2 60 40)))) rfl ?_
              obtain ⟨q28, h29, hf⟩ := bnd hf
              refine go_c (mid := 12125) (args := [.ref 60, .long (gl q15.2 60 38), .long (gl q15.2 60 39)]) (pc := 287) (L := [some (.ref 60), none, some (.int x2), some (.int x3), some (.int x4), some (.int q4), some (.int q11), none, none, none, none]) (st := []) (σ := (wi q15.2 60 43 (gi q15.2 60 40))) rfl ((fX7_keepSpan_ok _ _ _ q28 h29).deep (Nat.le_of_ble_eq_true rfl)) ?_
              obtain ⟨h30, hf⟩ := grd hf
              cases hf
              exact go_ret rfl rfl (Or.inr (Or.inl ⟨rfl, h30⟩))
          · rw [if_neg h8] at hf
            refine go_if (t := 238) (f := 168) (L1 := [some (.ref 60), none, some (.int x2), some (.int x3), some (.int x4), some (.int q4), none, none, none, none, none]) (st1 := []) (σ1 := σ) rfl h8 ?_
            refine go_n 5 (f := (174, [some (.ref 60), none, some (.int x2), some (.int x3), some (.int x4), some (.int q4), none, none, none, none, none], [.int 8, .int x3, .ref 60, .int 5, .ref 60], σ)) rfl ?_
            obtain ⟨q31, h32, hf⟩ := bnd hf
            refine go_c (mid := 12067) (args := [.ref 60, .int x3, .int 8]) (pc := 177) (L := [some (.ref 60), none, some (.int x2), some (.int x3), some (.int x4), some (.int q4), none, none, none, none, none]) (st := [.int 5, .ref 60]) (σ := σ) rfl ((fX7_get_ok _ _ _ q31 h32).deep (Nat.le_of_ble_eq_true rfl)) ?_
            refine go_n 3 (f := (180, [some (.ref 60), none, some (.int x2), some (.int x3), some (.int x4), some (.int q4), none, none, none, none, none], [.int x2, .int x3, .int 0, .int q31, .int 5, .ref 60], σ)) rfl ?_
            obtain ⟨q33, h34, hf⟩ := bnd hf
            refine go_c (mid := 12118) (args := [.ref 60, .int 5, .int q31, .int 0, .int x3, .int x2]) (pc := 183) (L := [some (.ref 60), none, some (.int x2), some (.int x3), some (.int x4), some (.int q4), none, none, none, none, none]) (st := []) (σ := σ) rfl ((fX7_find_ok _ _ _ _ _ _ q33 h34).deep (Nat.le_of_ble_eq_true rfl)) ?_
            by_cases h35 : q33.1 ≠ 0
            · rw [if_pos h35] at hf
              refine go_it (t := 188) (f := 186) (L1 := [some (.ref 60), none, some (.int x2), some (.int x3), some (.int x4), some (.int q4), none, none, none, none, none]) (st1 := []) (σ1 := q33.2) rfl h35 ?_
              refine go_n 8 (f := (202, [some (.ref 60), none, some (.int x2), some (.int x3), some (.int x4), some (.int q4), none, none, none, none, none], [.int (lg_cmp (gl q33.2 60 39) 0)], (wi q33.2 60 43 (gi q33.2 60 40)))) rfl ?_
              refine go_m (f := (217, [some (.ref 60), none, none, none, none, none, none, none, none, none, none], [.long (if 0 ≤ (gl q33.2 60 39) then (gl q33.2 60 39) else (-(gl q33.2 60 39)))], (wi q33.2 60 43 (gi q33.2 60 40)))) ?_ (fun hJ41 => ?_)
              · generalize hz37 : (if 0 ≤ (gl q33.2 60 39) then (gl q33.2 60 39) else (-(gl q33.2 60 39))) = z37 at hf ⊢
                try dsimp only at hf
                refine go_n 10 (f := (234, [some (.ref 60), none, none, none, none, none, some (.long z37), none, none, none, none], [.long ((gl q33.2 60 38) + z37), .long ((gl q33.2 60 38) - z37), .ref 60], (wi q33.2 60 43 (gi q33.2 60 40)))) rfl ?_
                obtain ⟨q38, h39, hf⟩ := bnd hf
                refine go_c (mid := 12125) (args := [.ref 60, .long ((gl q33.2 60 38) - z37), .long ((gl q33.2 60 38) + z37)]) (pc := 237) (L := [some (.ref 60), none, none, none, none, none, some (.long z37), none, none, none, none]) (st := []) (σ := (wi q33.2 60 43 (gi q33.2 60 40))) rfl ((fX7_keepSpan_ok _ _ _ q38 h39).deep (Nat.le_of_ble_eq_true rfl)) ?_
                obtain ⟨h40, hf⟩ := grd hf
                cases hf
                exact go_ret rfl rfl (Or.inr (Or.inl ⟨rfl, h40⟩))
              · by_cases h36 : 0 ≤ (gl q33.2 60 39)
                · refine go_it (t := 213) (f := 205) (L1 := [some (.ref 60), none, some (.int x2), some (.int x3), some (.int x4), some (.int q4), none, none, none, none, none]) (st1 := []) (σ1 := (wi q33.2 60 43 (gi q33.2 60 40))) rfl ((lgc_ge (gl q33.2 60 39) 0).mpr h36) ?_
                  refine go_n 2 (f := (217, [some (.ref 60), none, some (.int x2), some (.int x3), some (.int x4), some (.int q4), none, none, none, none, none], [.long (gl q33.2 60 39)], (wi q33.2 60 43 (gi q33.2 60 40)))) rfl ?_
                  refine go_e (L1 := [some (.ref 60), none, none, none, none, none, none, none, none, none, none]) rfl rfl ?_
                  simp only [if_pos h36] at hJ41
                  first | exact hJ41 | (simp only [if_pos h36]; exact hJ41)
                · refine go_if (t := 213) (f := 205) (L1 := [some (.ref 60), none, some (.int x2), some (.int x3), some (.int x4), some (.int q4), none, none, none, none, none]) (st1 := []) (σ1 := (wi q33.2 60 43 (gi q33.2 60 40))) rfl (fun q => h36 ((lgc_ge (gl q33.2 60 39) 0).mp q)) ?_
                  refine go_n 4 (f := (217, [some (.ref 60), none, some (.int x2), some (.int x3), some (.int x4), some (.int q4), none, none, none, none, none], [.long (-(gl q33.2 60 39))], (wi q33.2 60 43 (gi q33.2 60 40)))) rfl ?_
                  refine go_e (L1 := [some (.ref 60), none, none, none, none, none, none, none, none, none, none]) rfl rfl ?_
                  simp only [if_neg h36] at hJ41
                  first | exact hJ41 | (simp only [if_neg h36]; exact hJ41)
            · rw [if_neg h35] at hf
              refine go_if (t := 188) (f := 186) (L1 := [some (.ref 60), none, some (.int x2), some (.int x3), some (.int x4), some (.int q4), none, none, none, none, none]) (st1 := []) (σ1 := q33.2) rfl h35 ?_
              refine go_n 1 (f := (187, [some (.ref 60), none, some (.int x2), some (.int x3), some (.int x4), some (.int q4), none, none, none, none, none], [.int 0], q33.2)) rfl ?_
              cases hf
              exact go_r rfl
        · rw [if_neg h7] at hf
          refine go_if (t := 162) (f := 70) (L1 := [some (.ref 60), none, some (.int x2), some (.int x3), some (.int x4), some (.int q4), none, none, none, none, none]) (st1 := []) (σ1 := σ) rfl h7 ?_
          refine go_n 3 (f := (73, [some (.ref 60), none, some (.int x2), some (.int x3), some (.int x4), some (.int q4), none, none, none, none, none], [.int x2, .int x3, .ref 60], σ)) rfl ?_
          obtain ⟨q42, h43, hf⟩ := bnd hf
          refine go_c (mid := 12117) (args := [.ref 60, .int x3, .int x2]) (pc := 76) (L := [some (.ref 60), none, some (.int x2), some (.int x3), some (.int x4), some (.int q4), none, none, none, none, none]) (st := []) (σ := σ) rfl ((fX7_putRight_ok _ _ _ q42 h43).deep (Nat.le_of_ble_eq_true rfl)) ?_
          refine go_n 5 (f := (85, [some (.ref 60), none, some (.int x2), some (.int x3), some (.int x4), some (.int q4), some (.long q42.1), none, none, none, none], [], (wi q42.2 60 44 q42.1.toInt32))) rfl ?_
          refine go_n 6 (f := (91, [some (.ref 60), none, some (.int x2), some (.int x3), some (.int x4), some (.int q4), some (.long q42.1), none, none, none, none], [.int x2, .int x3, .int 0, .int 0, .int 2, .ref 60], (wi q42.2 60 44 q42.1.toInt32))) rfl ?_
          obtain ⟨q44, h45, hf⟩ := bnd hf
          refine go_c (mid := 12118) (args := [.ref 60, .int 2, .int 0, .int 0, .int x3, .int x2]) (pc := 94) (L := [some (.ref 60), none, some (.int x2), some (.int x3), some (.int x4), some (.int q4), some (.long q42.1), none, none, none, none]) (st := []) (σ := (wi q42.2 60 44 q42.1.toInt32)) rfl ((fX7_find_ok _ _ _ _ _ _ q44 h45).deep (Nat.le_of_ble_eq_true rfl)) ?_
          refine go_n 2 (f := (98, [some (.ref 60), none, some (.int x2), some (.int x3), some (.int x4), some (.int q4), some (.long q42.1), none, some (.int q44.1), none, none], [.int q44.1], q44.2)) rfl ?_
          refine go_m (f := (128, [some (.ref 60), none, none, none, none, none, some (.long q42.1), none, some (.int q44.1), none, none], [.long (if q44.1 = 0 then 20 else (if 0 ≤ (gl q44.2 60 38) then (gl q44.2 60 38) else (-(gl q44.2 60 38))))], q44.2)) ?_ (fun hJ55 => ?_)
          · generalize hz48 : (if q44.1 = 0 then 20 else (if 0 ≤ (gl q44.2 60 38) then (gl q44.2 60 38) else (-(gl q44.2 60 38)))) = z48 at hf ⊢
            try dsimp only at hf
            refine go_n 3 (f := (133, [some (.ref 60), none, none, none, none, none, some (.long q42.1), none, some (.int q44.1), some (.long z48), none], [.int q44.1, .ref 60], q44.2)) rfl ?_
            refine go_m (f := (144, [some (.ref 60), none, none, none, none, none, some (.long q42.1), none, none, some (.long z48), none], [.int (if q44.1 = 0 then (-1) else (gi q44.2 60 40)), .ref 60], q44.2)) ?_ (fun hJ54 => ?_)
            · generalize hz50 : (if q44.1 = 0 then (-1) else (gi q44.2 60 40)) = z50 at hf ⊢
              try dsimp only at hf
              refine go_n 8 (f := (158, [some (.ref 60), none, none, none, none, none, some (.long q42.1), none, none, some (.long z48), none], [.long (q42.1 + z48), .long (q42.1 - z48), .ref 60], (wi q44.2 60 43 z50))) rfl ?_
              obtain ⟨q51, h52, hf⟩ := bnd hf
              refine go_c (mid := 12125) (args := [.ref 60, .long (q42.1 - z48), .long (q42.1 + z48)]) (pc := 161) (L := [some (.ref 60), none, none, none, none, none, some (.long q42.1), none, none, some (.long z48), none]) (st := []) (σ := (wi q44.2 60 43 z50)) rfl ((fX7_keepSpan_ok _ _ _ q51 h52).deep (Nat.le_of_ble_eq_true rfl)) ?_
              obtain ⟨h53, hf⟩ := grd hf
              cases hf
              exact go_ret rfl rfl (Or.inr (Or.inl ⟨rfl, h53⟩))
            · by_cases h49 : q44.1 = 0
              · refine go_it (t := 143) (f := 136) (L1 := [some (.ref 60), none, none, none, none, none, some (.long q42.1), none, some (.int q44.1), some (.long z48), none]) (st1 := [.ref 60]) (σ1 := q44.2) rfl h49 ?_
                refine go_n 1 (f := (144, [some (.ref 60), none, none, none, none, none, some (.long q42.1), none, some (.int q44.1), some (.long z48), none], [.int (-1), .ref 60], q44.2)) rfl ?_
                refine go_e (L1 := [some (.ref 60), none, none, none, none, none, some (.long q42.1), none, none, some (.long z48), none]) rfl rfl ?_
                simp only [if_pos h49] at hJ54
                first | exact hJ54 | (simp only [if_pos h49]; exact hJ54)
              · refine go_if (t := 143) (f := 136) (L1 := [some (.ref 60), none, none, none, none, none, some (.long q42.1), none, some (.int q44.1), some (.long z48), none]) (st1 := [.ref 60]) (σ1 := q44.2) rfl h49 ?_
                refine go_n 3 (f := (144, [some (.ref 60), none, none, none, none, none, some (.long q42.1), none, some (.int q44.1), some (.long z48), none], [.int (gi q44.2 60 40), .ref 60], q44.2)) rfl ?_
                refine go_e (L1 := [some (.ref 60), none, none, none, none, none, some (.long q42.1), none, none, some (.long z48), none]) rfl rfl ?_
                simp only [if_neg h49] at hJ54
                first | exact hJ54 | (simp only [if_neg h49]; exact hJ54)
          · by_cases h46 : q44.1 = 0
            · refine go_it (t := 125) (f := 101) (L1 := [some (.ref 60), none, some (.int x2), some (.int x3), some (.int x4), some (.int q4), some (.long q42.1), none, some (.int q44.1), none, none]) (st1 := []) (σ1 := q44.2) rfl h46 ?_
              refine go_n 1 (f := (128, [some (.ref 60), none, some (.int x2), some (.int x3), some (.int x4), some (.int q4), some (.long q42.1), none, some (.int q44.1), none, none], [.long 20], q44.2)) rfl ?_
              refine go_e (L1 := [some (.ref 60), none, none, none, none, none, some (.long q42.1), none, some (.int q44.1), none, none]) rfl rfl ?_
              simp only [if_pos h46] at hJ55
              first | exact hJ55 | (simp only [if_pos h46]; exact hJ55)
            · refine go_if (t := 125) (f := 101) (L1 := [some (.ref 60), none, some (.int x2), some (.int x3), some (.int x4), some (.int q4), some (.long q42.1), none, some (.int q44.1), none, none]) (st1 := []) (σ1 := q44.2) rfl h46 ?_
              refine go_n 4 (f := (107, [some (.ref 60), none, some (.int x2), some (.int x3), some (.int x4), some (.int q4), some (.long q42.1), none, some (.int q44.1), none, none], [.int (lg_cmp (gl q44.2 60 38) 0)], q44.2)) rfl ?_
              by_cases h47 : 0 ≤ (gl q44.2 60 38)
              · refine go_it (t := 118) (f := 110) (L1 := [some (.ref 60), none, some (.int x2), some (.int x3), some (.int x4), some (.int q4), some (.long q42.1), none, some (.int q44.1), none, none]) (st1 := []) (σ1 := q44.2) rfl ((lgc_ge (gl q44.2 60 38) 0).mpr h47) ?_
                refine go_n 3 (f := (128, [some (.ref 60), none, some (.int x2), some (.int x3), some (.int x4), some (.int q4), some (.long q42.1), none, some (.int q44.1), none, none], [.long (gl q44.2 60 38)], q44.2)) rfl ?_
                refine go_e (L1 := [some (.ref 60), none, none, none, none, none, some (.long q42.1), none, some (.int q44.1), none, none]) rfl rfl ?_
                simp only [if_neg h46, if_pos h47] at hJ55
                first | exact hJ55 | (simp only [if_neg h46, if_pos h47]; exact hJ55)
              · refine go_if (t := 118) (f := 110) (L1 := [some (.ref 60), none, some (.int x2), some (.int x3), some (.int x4), some (.int q4), some (.long q42.1), none, some (.int q44.1), none, none]) (st1 := []) (σ1 := q44.2) rfl (fun q => h47 ((lgc_ge (gl q44.2 60 38) 0).mp q)) ?_
                refine go_n 4 (f := (128, [some (.ref 60), none, some (.int x2), some (.int x3), some (.int x4), some (.int q4), some (.long q42.1), none, some (.int q44.1), none, none], [.long (-(gl q44.2 60 38))], q44.2)) rfl ?_
                refine go_e (L1 := [some (.ref 60), none, none, none, none, none, some (.long q42.1), none, some (.int q44.1), none, none]) rfl rfl ?_
                simp only [if_neg h46, if_neg h47] at hJ55
                first | exact hJ55 | (simp only [if_neg h46, if_neg h47]; exact hJ55)
      · rw [if_neg h6] at hf
        refine go_if (t := 64) (f := 62) (L1 := [some (.ref 60), none, some (.int x2), some (.int x3), some (.int x4), some (.int q4), none, none, none, none, none]) (st1 := []) (σ1 := σ) rfl h6 ?_
        refine go_n 1 (f := (63, [some (.ref 60), none, some (.int x2), some (.int x3), some (.int x4), some (.int q4), none, none, none, none, none], [.int 0], σ)) rfl ?_
        cases hf
        exact go_r rfl
    · rw [if_neg h3] at hf
      refine go_if (t := 48) (f := 20) (L1 := [some (.ref 60), none, some (.int x2), some (.int x3), some (.int x4), none, none, none, none, none, none]) (st1 := []) (σ1 := σ) rfl h3 ?_
      refine go_n 3 (f := (24, [some (.ref 60), none, some (.int x2), some (.int x3), some (.int x4), none, none, none, none, none, none], [.int 8, .int x3, .ref 60], σ)) rfl ?_
      obtain ⟨q56, h57, hf⟩ := bnd hf
      refine go_c (mid := 12067) (args := [.ref 60, .int x3, .int 8]) (pc := 27) (L := [some (.ref 60), none, some (.int x2), some (.int x3), some (.int x4), none, none, none, none, none, none]) (st := []) (σ := σ) rfl ((fX7_get_ok _ _ _ q56 h57).deep (Nat.le_of_ble_eq_true rfl)) ?_
      refine go_n 2 (f := (31, [some (.ref 60), none, some (.int x2), some (.int q56), some (.int (x4 + 1)), none, none, none, none, none, none], [], σ)) rfl ?_
      refine go_n 2 (f := (35, [some (.ref 60), none, some (.int x2), some (.int q56), some (.int (x4 + 1)), none, none, none, none, none, none], [.int 10, .int (x4 + 1)], σ)) rfl ?_
      by_cases h58 : 10 < (x4 + 1)
      · rw [if_pos h58] at hf
        refine go_it (t := 46) (f := 38) (L1 := [some (.ref 60), none, some (.int x2), some (.int q56), some (.int (x4 + 1)), none, none, none, none, none, none]) (st1 := []) (σ1 := σ) rfl h58 ?_
        refine go_e (L1 := [none, none, none, none, none, none, none, none, none, none, none]) rfl rfl ?_
        refine go_n 1 (f := (47, [none, none, none, none, none, none, none, none, none, none, none], [.int 0], σ)) rfl ?_
        cases hf
        exact go_r rfl
      · rw [if_neg h58] at hf
        refine go_if (t := 46) (f := 38) (L1 := [some (.ref 60), none, some (.int x2), some (.int q56), some (.int (x4 + 1)), none, none, none, none, none, none]) (st1 := []) (σ1 := σ) rfl h58 ?_
        refine go_n 2 (f := (40, [some (.ref 60), none, some (.int x2), some (.int q56), some (.int (x4 + 1)), none, none, none, none, none, none], [.int q56, .ref 60], σ)) rfl ?_
        obtain ⟨q59, h60, hf⟩ := bnd hf
        refine go_c (mid := 12115) (args := [.ref 60, .int q56]) (pc := 43) (L := [some (.ref 60), none, some (.int x2), some (.int q56), some (.int (x4 + 1)), none, none, none, none, none, none]) (st := []) (σ := σ) rfl ((fX7_isTold_ok _ _ q59 h60).deep (Nat.le_of_ble_eq_true rfl)) ?_
        by_cases h61 : q59 ≠ 0
        · rw [if_pos h61] at hf
          refine go_it (t := 10) (f := 46) (L1 := [some (.ref 60), none, some (.int x2), some (.int q56), some (.int (x4 + 1)), none, none, none, none, none, none]) (st1 := []) (σ1 := σ) rfl h61 ?_
          exact hrec10 _ _ _ hf
        · rw [if_neg h61] at hf
          refine go_if (t := 10) (f := 46) (L1 := [some (.ref 60), none, some (.int x2), some (.int q56), some (.int (x4 + 1)), none, none, none, none, none, none]) (st1 := []) (σ1 := σ) rfl h61 ?_
          refine go_e (L1 := [none, none, none, none, none, none, none, none, none, none, none]) rfl rfl ?_
          refine go_n 1 (f := (47, [none, none, none, none, none, none, none, none, none, none, none], [.int 0], σ)) rfl ?_
          cases hf
          exact go_r rfl
def fX7_findBounds (x1 : Int32) (x2 : Int32) (σ : Sg) : Option (Int32 × Sg) :=
  lp (fX7_findBounds_L10 x2 (wi σ 60 43 (-1)) ) N0 (x1, 0)
set_option maxHeartbeats 1500000 in
theorem fX7_findBounds_ok (x1 : Int32) (x2 : Int32) (σ : Sg) (r : (Int32 × Sg)) (hf : fX7_findBounds x1 x2 σ = some r) : Cl true 9 12116 [.ref 60, .int x1, .int x2] σ (.inl (some (.int (r).1)), (r).2) := by
  refine ⟨iX7_findBounds, rfl, Nat.le_of_ble_eq_true rfl, Nat.le_of_ble_eq_true rfl, ?_⟩
  show Go true 9 iX7_findBounds (0, [some (.ref 60), some (.int x1), some (.int x2), none, none, none, none, none, none, none, none], [], σ) (.inl (some (.int (r).1)), (r).2)
  unfold fX7_findBounds at hf
  refine go_n 4 (f := (5, [some (.ref 60), some (.int x1), some (.int x2), some (.int x1), some (.int 0), none, none, none, none, none, none], [], σ)) rfl ?_
  refine go_n 3 (f := (10, [some (.ref 60), some (.int x1), some (.int x2), some (.int x1), some (.int 0), none, none, none, none, none, none], [], (wi σ 60 43 (-1)))) rfl ?_
  refine go_e (L1 := [some (.ref 60), none, some (.int x2), some (.int x1), some (.int 0), none, none, none, none, none, none]) rfl rfl ?_
  exact fX7_findBounds_L10_ok _ _   N0 _ _ _ hf
/-! OldWeatherModel.doesCount(I)Z -/
def fX7_doesCount_J144 (x2 : Int32) (x3 : Int32) (x5 : Int32) (rec58 : (Int32 × Sg) → Option (Int32 × Sg)) (σ : Sg) : Option (Int32 × Sg) :=
  rec58 ((x5 + 1), σ)
set_option maxHeartbeats 1500000 in
theorem fX7_doesCount_J144_ok (x2 : Int32) (x3 : Int32) (x5 : Int32) (rec58 : (Int32 × Sg) → Option (Int32 × Sg)) (σ : Sg) (hrec58 : ∀ (y5 : Int32) (τ : Sg) (r : (Int32 × Sg)), rec58 (y5, τ) = some r → Go true 10 iX7_doesCount (58, [some (.ref 60), none, some (.int x2), some (.int x3), none, some (.int y5), none], [], τ) (.inl (some (.int (r).1)), (r).2)) (r : (Int32 × Sg)) (hf : fX7_doesCount_J144 x2 x3 x5 rec58 σ = some r) : Go true 10 iX7_doesCount (144, [some (.ref 60), none, some (.int x2), some (.int x3), none, some (.int x5), none], [], σ) (.inl (some (.int (r).1)), (r).2) := by
  unfold fX7_doesCount_J144 at hf
  refine go_n 2 (f := (58, [some (.ref 60), none, some (.int x2), some (.int x3), none, some (.int (x5 + 1)), none], [], σ)) rfl ?_
  exact hrec58 _ _ _ hf
def fX7_doesCount_L58 (x2 : Int32) (x3 : Int32)  (rec58 : (Int32 × Sg) → Option (Int32 × Sg)) (s : Int32 × Sg) : Option (Int32 × Sg) :=
  match s with
  | (x5, σ) => if (gi σ 61 2) ≤ x5 then some (1, σ) else (fX7_sourceOf x5 σ).bind fun q12 => if x3 ≤ q12 then fX7_doesCount_J144 x2 x3 x5 rec58 σ else if inb q12 16 then if inb x3 16 then if (gi σ 80 q12.toNatClampNeg) ≠ (gi σ 80 x3.toNatClampNeg) then fX7_doesCount_J144 x2 x3 x5 rec58 σ else (fX7_placeOf q12 σ).bind fun q18 => (fX7_placeOf x3 σ).bind fun q20 => if q18 ≠ q20 then fX7_doesCount_J144 x2 x3 x5 rec58 σ else (fX7_dayFirst x5 σ).bind fun q23 => if q23 ≠ x2 then fX7_doesCount_J144 x2 x3 x5 rec58 σ else (fX7_isTold x5 σ).bind fun q26 => if q26 = 0 then fX7_doesCount_J144 x2 x3 x5 rec58 σ else (fX7_findBounds x5 x2 σ).bind fun q29 => if q29.1 = 0 then fX7_doesCount_J144 x2 x3 x5 rec58 q29.2 else some (0, q29.2) else none else none
set_option maxHeartbeats 1500000 in
theorem fX7_doesCount_L58_ok (x2 : Int32) (x3 : Int32)   : ∀ (n : Nat) (x5 : Int32) (σ : Sg) (r : (Int32 × Sg)), lp (fX7_doesCount_L58 x2 x3 ) n (x5, σ) = some r → Go true 10 iX7_doesCount (58, [some (.ref 60), none, some (.int x2), some (.int x3), none, some (.int x5), none], [], σ) (.inl (some (.int (r).1)), (r).2) := by
  intro n
  induction n with
  | zero => intro x5 σ r hf; cases hf
  | succ n ih =>
    intro x5 σ r hf
    have hf : fX7_doesCount_L58 x2 x3  (lp (fX7_doesCount_L58 x2 x3 ) n) (x5, σ) = some r := hf
    have hrec58 := ih
    generalize lp (fX7_doesCount_L58 x2 x3 ) n = rec58 at hf hrec58
    unfold fX7_doesCount_L58 at hf
    dsimp only at hf
    refine go_n 5 (f := (66, [some (.ref 60), none, some (.int x2), some (.int x3), none, some (.int x5), none], [.int (gi σ 61 2), .int x5], σ)) rfl ?_
    by_cases h11 : (gi σ 61 2) ≤ x5
    · rw [if_pos h11] at hf
      refine go_it (t := 150) (f := 69) (L1 := [some (.ref 60), none, some (.int x2), some (.int x3), none, some (.int x5), none]) (st1 := []) (σ1 := σ) rfl h11 ?_
      refine go_n 1 (f := (151, [some (.ref 60), none, some (.int x2), some (.int x3), none, some (.int x5), none], [.int 1], σ)) rfl ?_
      cases hf
      exact go_r rfl
    · rw [if_neg h11] at hf
      refine go_if (t := 150) (f := 69) (L1 := [some (.ref 60), none, some (.int x2), some (.int x3), none, some (.int x5), none]) (st1 := []) (σ1 := σ) rfl h11 ?_
      refine go_n 2 (f := (72, [some (.ref 60), none, some (.int x2), some (.int x3), none, some (.int x5), none], [.int x5, .ref 60], σ)) rfl ?_
      obtain ⟨q12, h13, hf⟩ := bnd hf
      refine go_c (mid := 12066) (args := [.ref 60, .int x5]) (pc := 75) (L := [some (.ref 60), none, some (.int x2), some (.int x3), none, some (.int x5), none]) (st := []) (σ := σ) rfl ((fX7_sourceOf_ok _ _ q12 h13).deep (Nat.le_of_ble_eq_true rfl)) ?_
      refine go_n 3 (f := (80, [some (.ref 60), none, some (.int x2), some (.int x3), none, some (.int x5), some (.int q12)], [.int x3, .int q12], σ)) rfl ?_
      by_cases h14 : x3 ≤ q12
      · rw [if_pos h14] at hf
        refine go_it (t := 144) (f := 83) (L1 := [some (.ref 60), none, some (.int x2), some (.int x3), none, some (.int x5), some (.int q12)]) (st1 := []) (σ1 := σ) rfl h14 ?_
        refine go_e (L1 := [some (.ref 60), none, some (.int x2), some (.int x3), none, some (.int x5), none]) rfl rfl ?_
        exact fX7_doesCount_J144_ok _ _ _ _ _ hrec58 _ hf
      · rw [if_neg h14] at hf
        refine go_if (t := 144) (f := 83) (L1 := [some (.ref 60), none, some (.int x2), some (.int x3), none, some (.int x5), some (.int q12)]) (st1 := []) (σ1 := σ) rfl h14 ?_
        refine go_n 3 (f := (89, [some (.ref 60), none, some (.int x2), some (.int x3), none, some (.int x5), some (.int q12)], [.int q12, .ref 80], σ)) rfl ?_
        obtain ⟨h15, hf⟩ := grd hf
        refine go_iald rfl rfl rfl h15 ?_
        refine go_n 3 (f := (95, [some (.ref 60), none, some (.int x2), some (.int x3), none, some (.int x5), some (.int q12)], [.int x3, .ref 80, .int (gi σ 80 q12.toNatClampNeg)], σ)) rfl ?_
        obtain ⟨h16, hf⟩ := grd hf
        refine go_iald rfl rfl rfl h16 ?_
        by_cases h17 : (gi σ 80 q12.toNatClampNeg) ≠ (gi σ 80 x3.toNatClampNeg)
        · rw [if_pos h17] at hf
          refine go_it (t := 144) (f := 99) (L1 := [some (.ref 60), none, some (.int x2), some (.int x3), none, some (.int x5), some (.int q12)]) (st1 := []) (σ1 := σ) rfl h17 ?_
          refine go_e (L1 := [some (.ref 60), none, some (.int x2), some (.int x3), none, some (.int x5), none]) rfl rfl ?_
          exact fX7_doesCount_J144_ok _ _ _ _ _ hrec58 _ hf
        · rw [if_neg h17] at hf
          refine go_if (t := 144) (f := 99) (L1 := [some (.ref 60), none, some (.int x2), some (.int x3), none, some (.int x5), some (.int q12)]) (st1 := []) (σ1 := σ) rfl h17 ?_
          refine go_n 2 (f := (102, [some (.ref 60), none, some (.int x2), some (.int x3), none, some (.int x5), some (.int q12)], [.int q12, .ref 60], σ)) rfl ?_
          obtain ⟨q18, h19, hf⟩ := bnd hf
          refine go_c (mid := 12120) (args := [.ref 60, .int q12]) (pc := 105) (L := [some (.ref 60), none, some (.int x2), some (.int x3), none, some (.int x5), some (.int q12)]) (st := []) (σ := σ) rfl ((fX7_placeOf_ok _ _ q18 h19).deep (Nat.le_of_ble_eq_true rfl)) ?_
          refine go_n 2 (f := (107, [some (.ref 60), none, some (.int x2), some (.int x3), none, some (.int x5), some (.int q12)], [.int x3, .ref 60, .int q18], σ)) rfl ?_
          obtain ⟨q20, h21, hf⟩ := bnd hf
          refine go_c (mid := 12120) (args := [.ref 60, .int x3]) (pc := 110) (L := [some (.ref 60), none, some (.int x2), some (.int x3), none, some (.int x5), some (.int q12)]) (st := [.int q18]) (σ := σ) rfl ((fX7_placeOf_ok _ _ q20 h21).deep (Nat.le_of_ble_eq_true rfl)) ?_
          by_cases h22 : q18 ≠ q20
          · rw [if_pos h22] at hf
            refine go_it (t := 144) (f := 113) (L1 := [some (.ref 60), none, some (.int x2), some (.int x3), none, some (.int x5), some (.int q12)]) (st1 := []) (σ1 := σ) rfl h22 ?_
            refine go_e (L1 := [some (.ref 60), none, some (.int x2), some (.int x3), none, some (.int x5), none]) rfl rfl ?_
            exact fX7_doesCount_J144_ok _ _ _ _ _ hrec58 _ hf
          · rw [if_neg h22] at hf
            refine go_if (t := 144) (f := 113) (L1 := [some (.ref 60), none, some (.int x2), some (.int x3), none, some (.int x5), some (.int q12)]) (st1 := []) (σ1 := σ) rfl h22 ?_
            refine go_n 2 (f := (116, [some (.ref 60), none, some (.int x2), some (.int x3), none, some (.int x5), some (.int q12)], [.int x5, .ref 60], σ)) rfl ?_
            obtain ⟨q23, h24, hf⟩ := bnd hf
            refine go_c (mid := 12114) (args := [.ref 60, .int x5]) (pc := 119) (L := [some (.ref 60), none, some (.int x2), some (.int x3), none, some (.int x5), some (.int q12)]) (st := []) (σ := σ) rfl ((fX7_dayFirst_ok _ _ q23 h24).deep (Nat.le_of_ble_eq_true rfl)) ?_
            refine go_n 1 (f := (120, [some (.ref 60), none, some (.int x2), some (.int x3), none, some (.int x5), some (.int q12)], [.int x2, .int q23], σ)) rfl ?_
            by_cases h25 : q23 ≠ x2
            · rw [if_pos h25] at hf
              refine go_it (t := 144) (f := 123) (L1 := [some (.ref 60), none, some (.int x2), some (.int x3), none, some (.int x5), some (.int q12)]) (st1 := []) (σ1 := σ) rfl h25 ?_
              refine go_e (L1 := [some (.ref 60), none, some (.int x2), some (.int x3), none, some (.int x5), none]) rfl rfl ?_
              exact fX7_doesCount_J144_ok _ _ _ _ _ hrec58 _ hf
            · rw [if_neg h25] at hf
              refine go_if (t := 144) (f := 123) (L1 := [some (.ref 60), none, some (.int x2), some (.int x3), none, some (.int x5), some (.int q12)]) (st1 := []) (σ1 := σ) rfl h25 ?_
              refine go_n 2 (f := (126, [some (.ref 60), none, some (.int x2), some (.int x3), none, some (.int x5), some (.int q12)], [.int x5, .ref 60], σ)) rfl ?_
              obtain ⟨q26, h27, hf⟩ := bnd hf
              refine go_c (mid := 12115) (args := [.ref 60, .int x5]) (pc := 129) (L := [some (.ref 60), none, some (.int x2), some (.int x3), none, some (.int x5), some (.int q12)]) (st := []) (σ := σ) rfl ((fX7_isTold_ok _ _ q26 h27).deep (Nat.le_of_ble_eq_true rfl)) ?_
              by_cases h28 : q26 = 0
              · rw [if_pos h28] at hf
                refine go_it (t := 144) (f := 132) (L1 := [some (.ref 60), none, some (.int x2), some (.int x3), none, some (.int x5), some (.int q12)]) (st1 := []) (σ1 := σ) rfl h28 ?_
                refine go_e (L1 := [some (.ref 60), none, some (.int x2), some (.int x3), none, some (.int x5), none]) rfl rfl ?_
                exact fX7_doesCount_J144_ok _ _ _ _ _ hrec58 _ hf
              · rw [if_neg h28] at hf
                refine go_if (t := 144) (f := 132) (L1 := [some (.ref 60), none, some (.int x2), some (.int x3), none, some (.int x5), some (.int q12)]) (st1 := []) (σ1 := σ) rfl h28 ?_
                refine go_n 3 (f := (136, [some (.ref 60), none, some (.int x2), some (.int x3), none, some (.int x5), some (.int q12)], [.int x2, .int x5, .ref 60], σ)) rfl ?_
                obtain ⟨q29, h30, hf⟩ := bnd hf
                refine go_c (mid := 12116) (args := [.ref 60, .int x5, .int x2]) (pc := 139) (L := [some (.ref 60), none, some (.int x2), some (.int x3), none, some (.int x5), some (.int q12)]) (st := []) (σ := σ) rfl ((fX7_findBounds_ok _ _ _ q29 h30).deep (Nat.le_of_ble_eq_true rfl)) ?_
                by_cases h31 : q29.1 = 0
                · rw [if_pos h31] at hf
                  refine go_it (t := 144) (f := 142) (L1 := [some (.ref 60), none, some (.int x2), some (.int x3), none, some (.int x5), some (.int q12)]) (st1 := []) (σ1 := q29.2) rfl h31 ?_
                  refine go_e (L1 := [some (.ref 60), none, some (.int x2), some (.int x3), none, some (.int x5), none]) rfl rfl ?_
                  exact fX7_doesCount_J144_ok _ _ _ _ _ hrec58 _ hf
                · rw [if_neg h31] at hf
                  refine go_if (t := 144) (f := 142) (L1 := [some (.ref 60), none, some (.int x2), some (.int x3), none, some (.int x5), some (.int q12)]) (st1 := []) (σ1 := q29.2) rfl h31 ?_
                  refine go_n 1 (f := (143, [some (.ref 60), none, some (.int x2), some (.int x3), none, some (.int x5), some (.int q12)], [.int 0], q29.2)) rfl ?_
                  cases hf
                  exact go_r rfl
def fX7_doesCount_J55 (x2 : Int32) (x3 : Int32)  (σ : Sg) : Option (Int32 × Sg) :=
  lp (fX7_doesCount_L58 x2 x3 ) N0 (0, σ)
set_option maxHeartbeats 1500000 in
theorem fX7_doesCount_J55_ok (x2 : Int32) (x3 : Int32)  (σ : Sg)  (r : (Int32 × Sg)) (hf : fX7_doesCount_J55 x2 x3  σ = some r) : Go true 10 iX7_doesCount (55, [some (.ref 60), none, some (.int x2), some (.int x3), none, none, none], [], σ) (.inl (some (.int (r).1)), (r).2) := by
  unfold fX7_doesCount_J55 at hf
  refine go_n 2 (f := (58, [some (.ref 60), none, some (.int x2), some (.int x3), none, some (.int 0), none], [], σ)) rfl ?_
  exact fX7_doesCount_L58_ok _ _   N0 _ _ _ hf
def fX7_doesCount (x1 : Int32) (σ : Sg) : Option (Int32 × Sg) :=
  (fX7_dayFirst x1 σ).bind fun q1 => (fX7_sourceOf x1 σ).bind fun q3 => if inb ((464 + (4 * q3)) + 3) 39698 then (fX7_isTold x1 σ).bind fun q6 => if q6 = 0 then some (0, σ) else if q1 = (-1) then some (0, σ) else if (gi σ 61 ((464 + (4 * q3)) + 3).toNatClampNeg) = (-1) then fX7_doesCount_J55 q1 q3  σ else if q1 ≤ (gi σ 61 ((464 + (4 * q3)) + 3).toNatClampNeg) then fX7_doesCount_J55 q1 q3  σ else some (0, σ) else none
set_option maxHeartbeats 1500000 in
theorem fX7_doesCount_ok (x1 : Int32) (σ : Sg) (r : (Int32 × Sg)) (hf : fX7_doesCount x1 σ = some r) : Cl true 10 12139 [.ref 60, .int x1] σ (.inl (some (.int (r).1)), (r).2) := by
  refine ⟨iX7_doesCount, rfl, Nat.le_of_ble_eq_true rfl, Nat.le_of_ble_eq_true rfl, ?_⟩
  show Go true 10 iX7_doesCount (0, [some (.ref 60), some (.int x1), none, none, none, none, none], [], σ) (.inl (some (.int (r).1)), (r).2)
  unfold fX7_doesCount at hf
  refine go_n 2 (f := (2, [some (.ref 60), some (.int x1), none, none, none, none, none], [.int x1, .ref 60], σ)) rfl ?_
  obtain ⟨q1, h2, hf⟩ := bnd hf
  refine go_c (mid := 12114) (args := [.ref 60, .int x1]) (pc := 5) (L := [some (.ref 60), some (.int x1), none, none, none, none, none]) (st := []) (σ := σ) rfl ((fX7_dayFirst_ok _ _ q1 h2).deep (Nat.le_of_ble_eq_true rfl)) ?_
  refine go_n 3 (f := (8, [some (.ref 60), some (.int x1), some (.int q1), none, none, none, none], [.int x1, .ref 60], σ)) rfl ?_
  obtain ⟨q3, h4, hf⟩ := bnd hf
  refine go_c (mid := 12066) (args := [.ref 60, .int x1]) (pc := 11) (L := [some (.ref 60), some (.int x1), some (.int q1), none, none, none, none]) (st := []) (σ := σ) rfl ((fX7_sourceOf_ok _ _ q3 h4).deep (Nat.le_of_ble_eq_true rfl)) ?_
  refine go_n 10 (f := (25, [some (.ref 60), some (.int x1), some (.int q1), some (.int q3), none, none, none], [.int ((464 + (4 * q3)) + 3), .ref 61], σ)) rfl ?_
  obtain ⟨h5, hf⟩ := grd hf
  refine go_iald rfl rfl rfl h5 ?_
  refine go_n 3 (f := (30, [some (.ref 60), some (.int x1), some (.int q1), some (.int q3), some (.int (gi σ 61 ((464 + (4 * q3)) + 3).toNatClampNeg)), none, none], [.int x1, .ref 60], σ)) rfl ?_
  obtain ⟨q6, h7, hf⟩ := bnd hf
  refine go_c (mid := 12115) (args := [.ref 60, .int x1]) (pc := 33) (L := [some (.ref 60), some (.int x1), some (.int q1), some (.int q3), some (.int (gi σ 61 ((464 + (4 * q3)) + 3).toNatClampNeg)), none, none]) (st := []) (σ := σ) rfl ((fX7_isTold_ok _ _ q6 h7).deep (Nat.le_of_ble_eq_true rfl)) ?_
  by_cases h8 : q6 = 0
  · rw [if_pos h8] at hf
    refine go_it (t := 53) (f := 36) (L1 := [some (.ref 60), some (.int x1), some (.int q1), some (.int q3), some (.int (gi σ 61 ((464 + (4 * q3)) + 3).toNatClampNeg)), none, none]) (st1 := []) (σ1 := σ) rfl h8 ?_
    refine go_e (L1 := [none, none, none, none, none, none, none]) rfl rfl ?_
    refine go_n 1 (f := (54, [none, none, none, none, none, none, none], [.int 0], σ)) rfl ?_
    cases hf
    exact go_r rfl
  · rw [if_neg h8] at hf
    refine go_if (t := 53) (f := 36) (L1 := [some (.ref 60), some (.int x1), some (.int q1), some (.int q3), some (.int (gi σ 61 ((464 + (4 * q3)) + 3).toNatClampNeg)), none, none]) (st1 := []) (σ1 := σ) rfl h8 ?_
    refine go_n 2 (f := (38, [some (.ref 60), some (.int x1), some (.int q1), some (.int q3), some (.int (gi σ 61 ((464 + (4 * q3)) + 3).toNatClampNeg)), none, none], [.int (-1), .int q1], σ)) rfl ?_
    by_cases h9 : q1 = (-1)
    · rw [if_pos h9] at hf
      refine go_it (t := 53) (f := 41) (L1 := [some (.ref 60), some (.int x1), some (.int q1), some (.int q3), some (.int (gi σ 61 ((464 + (4 * q3)) + 3).toNatClampNeg)), none, none]) (st1 := []) (σ1 := σ) rfl h9 ?_
      refine go_e (L1 := [none, none, none, none, none, none, none]) rfl rfl ?_
      refine go_n 1 (f := (54, [none, none, none, none, none, none, none], [.int 0], σ)) rfl ?_
      cases hf
      exact go_r rfl
    · rw [if_neg h9] at hf
      refine go_if (t := 53) (f := 41) (L1 := [some (.ref 60), some (.int x1), some (.int q1), some (.int q3), some (.int (gi σ 61 ((464 + (4 * q3)) + 3).toNatClampNeg)), none, none]) (st1 := []) (σ1 := σ) rfl h9 ?_
      refine go_n 2 (f := (44, [some (.ref 60), some (.int x1), some (.int q1), some (.int q3), some (.int (gi σ 61 ((464 + (4 * q3)) + 3).toNatClampNeg)), none, none], [.int (-1), .int (gi σ 61 ((464 + (4 * q3)) + 3).toNatClampNeg)], σ)) rfl ?_
      by_cases h10 : (gi σ 61 ((464 + (4 * q3)) + 3).toNatClampNeg) = (-1)
      · rw [if_pos h10] at hf
        refine go_it (t := 55) (f := 47) (L1 := [some (.ref 60), some (.int x1), some (.int q1), some (.int q3), some (.int (gi σ 61 ((464 + (4 * q3)) + 3).toNatClampNeg)), none, none]) (st1 := []) (σ1 := σ) rfl h10 ?_
        refine go_e (L1 := [some (.ref 60), none, some (.int q1), some (.int q3), none, none, none]) rfl rfl ?_
        exact fX7_doesCount_J55_ok _ _  _  _ hf
      · rw [if_neg h10] at hf
        refine go_if (t := 55) (f := 47) (L1 := [some (.ref 60), some (.int x1), some (.int q1), some (.int q3), some (.int (gi σ 61 ((464 + (4 * q3)) + 3).toNatClampNeg)), none, none]) (st1 := []) (σ1 := σ) rfl h10 ?_
        refine go_n 2 (f := (50, [some (.ref 60), some (.int x1), some (.int q1), some (.int q3), some (.int (gi σ 61 ((464 + (4 * q3)) + 3).toNatClampNeg)), none, none], [.int q1, .int (gi σ 61 ((464 + (4 * q3)) + 3).toNatClampNeg)], σ)) rfl ?_
        by_cases h32 : q1 ≤ (gi σ 61 ((464 + (4 * q3)) + 3).toNatClampNeg)
        · rw [if_pos h32] at hf
          refine go_it (t := 55) (f := 53) (L1 := [some (.ref 60), some (.int x1), some (.int q1), some (.int q3), some (.int (gi σ 61 ((464 + (4 * q3)) + 3).toNatClampNeg)), none, none]) (st1 := []) (σ1 := σ) rfl h32 ?_
          refine go_e (L1 := [some (.ref 60), none, some (.int q1), some (.int q3), none, none, none]) rfl rfl ?_
          exact fX7_doesCount_J55_ok _ _  _  _ hf
        · rw [if_neg h32] at hf
          refine go_if (t := 55) (f := 53) (L1 := [some (.ref 60), some (.int x1), some (.int q1), some (.int q3), some (.int (gi σ 61 ((464 + (4 * q3)) + 3).toNatClampNeg)), none, none]) (st1 := []) (σ1 := σ) rfl h32 ?_
          refine go_e (L1 := [none, none, none, none, none, none, none]) rfl rfl ?_
          refine go_n 1 (f := (54, [none, none, none, none, none, none, none], [.int 0], σ)) rfl ?_
          cases hf
          exact go_r rfl
/-! OldWeatherModel.join(II)V -/
def fX7_join_J482 (s0 : Int32)  (σ : Sg) : Option Sg :=
  some (wi σ 60 58 s0)
set_option maxHeartbeats 1500000 in
theorem fX7_join_J482_ok (s0 : Int32)  (σ : Sg)  (r : Sg) (hf : fX7_join_J482 s0  σ = some r) : Go true 11 iX7_join (482, [none, none, none, none, none, none, none, none, none, none, none, none, none, none, none, none, none, none, none, none, none, none], [.int s0, .ref 60], σ) (.inl none, r) := by
  unfold fX7_join_J482 at hf
  refine go_n 1 (f := (485, [none, none, none, none, none, none, none, none, none, none, none, none, none, none, none, none, none, none, none, none, none, none], [], (wi σ 60 58 s0))) rfl ?_
  cases hf
  exact go_r rfl
def fX7_join_J314 (x1 : Int32) (x2 : Int32) (x3 : Int32) (x4 : Int32) (x5 : Int32) (x6 : Int32) (x7 : Int64) (x9 : Int64) (x11 : Int32) (rec30 : (Int32 × Int32 × Int32 × Int32 × Int64 × Int64 × Int32 × Sg) → Option Sg) (σ : Sg) : Option Sg :=
  rec30 (x3, x4, x5, x6, x7, x9, (x11 + 1), σ)
set_option maxHeartbeats 1500000 in
theorem fX7_join_J314_ok (x1 : Int32) (x2 : Int32) (x3 : Int32) (x4 : Int32) (x5 : Int32) (x6 : Int32) (x7 : Int64) (x9 : Int64) (x11 : Int32) (rec30 : (Int32 × Int32 × Int32 × Int32 × Int64 × Int64 × Int32 × Sg) → Option Sg) (σ : Sg) (hrec30 : ∀ (y3 : Int32) (y4 : Int32) (y5 : Int32) (y6 : Int32) (y7 : Int64) (y9 : Int64) (y11 : Int32) (τ : Sg) (r : Sg), rec30 (y3, y4, y5, y6, y7, y9, y11, τ) = some r → Go true 11 iX7_join (30, [some (.ref 60), some (.int x1), some (.int x2), some (.int y3), some (.int y4), some (.int y5), some (.int y6), some (.long y7), none, some (.long y9), none, some (.int y11), none, none, none, none, none, none, none, none, none, none], [], τ) (.inl none, r)) (r : Sg) (hf : fX7_join_J314 x1 x2 x3 x4 x5 x6 x7 x9 x11 rec30 σ = some r) : Go true 11 iX7_join (314, [some (.ref 60), some (.int x1), some (.int x2), some (.int x3), some (.int x4), some (.int x5), some (.int x6), some (.long x7), none, some (.long x9), none, some (.int x11), none, none, none, none, none, none, none, none, none, none], [], σ) (.inl none, r) := by
  unfold fX7_join_J314 at hf
  refine go_n 2 (f := (30, [some (.ref 60), some (.int x1), some (.int x2), some (.int x3), some (.int x4), some (.int x5), some (.int x6), some (.long x7), none, some (.long x9), none, some (.int (x11 + 1)), none, none, none, none, none, none, none, none, none, none], [], σ)) rfl ?_
  exact hrec30 _ _ _ _ _ _ _ _ _ hf
def fX7_join_J111 (x1 : Int32) (x2 : Int32) (x3 : Int32) (x4 : Int32) (x5 : Int32) (x6 : Int32) (x7 : Int64) (x9 : Int64) (x11 : Int32) (x13 : Int32) (s0 : Int32) (rec30 : (Int32 × Int32 × Int32 × Int32 × Int64 × Int64 × Int32 × Sg) → Option Sg) (σ : Sg) : Option Sg :=
  if s0 = 0 then fX7_join_J314 x1 x2 x3 x4 x5 x6 x7 x9 x11 rec30 σ else (fX7_doesCount x11 σ).bind fun q31 => if q31.1 = 0 then fX7_join_J314 x1 x2 x3 x4 x5 x6 x7 x9 x11 rec30 q31.2 else (fX7_findBounds x11 x2 q31.2).bind fun q34 => if q34.1 = 0 then fX7_join_J314 x1 x2 x3 x4 x5 x6 x7 x9 x11 rec30 q34.2 else ((fun (z39 : Int32) => ((fun (z42 : Int32) => ((fun (z45 : Int32) => ((fun (z48 : Int32) => (fX7_weightOf x11 x2 q34.2).bind fun q49 => if inb (gi q49.2 60 55) 200 then fX7_join_J314 x1 x2 z39 z45 z42 z48 (x7 + (x13.toInt64 * q49.1)) (x9 + ((x13.toInt64 * q49.1) * ((gi q34.2 60 41) + (gi q34.2 60 42)).toInt64)) x11 rec30 (wi (wi q49.2 82 (gi q49.2 60 55).toNatClampNeg x11) 60 55 ((gi q49.2 60 55) + 1)) else none) (if (gi q34.2 60 55) = 0 then ((gi q34.2 60 42) + (100 - x13)) else (if ((gi q34.2 60 42) + (100 - x13)) ≤ x6 then x6 else ((gi q34.2 60 42) + (100 - x13)))))) (if (gi q34.2 60 55) = 0 then ((gi q34.2 60 42) + (100 - x13)) else (if x4 ≤ ((gi q34.2 60 42) + (100 - x13)) then x4 else ((gi q34.2 60 42) + (100 - x13)))))) (if (gi q34.2 60 55) = 0 then ((gi q34.2 60 41) - (100 - x13)) else (if x5 ≤ ((gi q34.2 60 41) - (100 - x13)) then x5 else ((gi q34.2 60 41) - (100 - x13)))))) (if (gi q34.2 60 55) = 0 then ((gi q34.2 60 41) - (100 - x13)) else (if ((gi q34.2 60 41) - (100 - x13)) ≤ x3 then x3 else ((gi q34.2 60 41) - (100 - x13)))))
set_option maxHeartbeats 1500000 in
theorem fX7_join_J111_ok (x1 : Int32) (x2 : Int32) (x3 : Int32) (x4 : Int32) (x5 : Int32) (x6 : Int32) (x7 : Int64) (x9 : Int64) (x11 : Int32) (x13 : Int32) (s0 : Int32) (rec30 : (Int32 × Int32 × Int32 × Int32 × Int64 × Int64 × Int32 × Sg) → Option Sg) (σ : Sg) (hrec30 : ∀ (y3 : Int32) (y4 : Int32) (y5 : Int32) (y6 : Int32) (y7 : Int64) (y9 : Int64) (y11 : Int32) (τ : Sg) (r : Sg), rec30 (y3, y4, y5, y6, y7, y9, y11, τ) = some r → Go true 11 iX7_join (30, [some (.ref 60), some (.int x1), some (.int x2), some (.int y3), some (.int y4), some (.int y5), some (.int y6), some (.long y7), none, some (.long y9), none, some (.int y11), none, none, none, none, none, none, none, none, none, none], [], τ) (.inl none, r)) (r : Sg) (hf : fX7_join_J111 x1 x2 x3 x4 x5 x6 x7 x9 x11 x13 s0 rec30 σ = some r) : Go true 11 iX7_join (111, [some (.ref 60), some (.int x1), some (.int x2), some (.int x3), some (.int x4), some (.int x5), some (.int x6), some (.long x7), none, some (.long x9), none, some (.int x11), none, some (.int x13), none, none, none, none, none, none, none, none], [.int s0], σ) (.inl none, r) := by
  unfold fX7_join_J111 at hf
  refine go_n 2 (f := (115, [some (.ref 60), some (.int x1), some (.int x2), some (.int x3), some (.int x4), some (.int x5), some (.int x6), some (.long x7), none, some (.long x9), none, some (.int x11), none, some (.int x13), some (.int s0), none, none, none, none, none, none, none], [.int s0], σ)) rfl ?_
  by_cases h30 : s0 = 0
  · rw [if_pos h30] at hf
    refine go_it (t := 314) (f := 118) (L1 := [some (.ref 60), some (.int x1), some (.int x2), some (.int x3), some (.int x4), some (.int x5), some (.int x6), some (.long x7), none, some (.long x9), none, some (.int x11), none, some (.int x13), some (.int s0), none, none, none, none, none, none, none]) (st1 := []) (σ1 := σ) rfl h30 ?_
    refine go_e (L1 := [some (.ref 60), some (.int x1), some (.int x2), some (.int x3), some (.int x4), some (.int x5), some (.int x6), some (.long x7), none, some (.long x9), none, some (.int x11), none, none, none, none, none, none, none, none, none, none]) rfl rfl ?_
    exact fX7_join_J314_ok _ _ _ _ _ _ _ _ _ _ _ hrec30 _ hf
  · rw [if_neg h30] at hf
    refine go_if (t := 314) (f := 118) (L1 := [some (.ref 60), some (.int x1), some (.int x2), some (.int x3), some (.int x4), some (.int x5), some (.int x6), some (.long x7), none, some (.long x9), none, some (.int x11), none, some (.int x13), some (.int s0), none, none, none, none, none, none, none]) (st1 := []) (σ1 := σ) rfl h30 ?_
    refine go_n 2 (f := (121, [some (.ref 60), some (.int x1), some (.int x2), some (.int x3), some (.int x4), some (.int x5), some (.int x6), some (.long x7), none, some (.long x9), none, some (.int x11), none, some (.int x13), some (.int s0), none, none, none, none, none, none, none], [.int x11, .ref 60], σ)) rfl ?_
    obtain ⟨q31, h32, hf⟩ := bnd hf
    refine go_c (mid := 12139) (args := [.ref 60, .int x11]) (pc := 124) (L := [some (.ref 60), some (.int x1), some (.int x2), some (.int x3), some (.int x4), some (.int x5), some (.int x6), some (.long x7), none, some (.long x9), none, some (.int x11), none, some (.int x13), some (.int s0), none, none, none, none, none, none, none]) (st := []) (σ := σ) rfl ((fX7_doesCount_ok _ _ q31 h32).deep (Nat.le_of_ble_eq_true rfl)) ?_
    by_cases h33 : q31.1 = 0
    · rw [if_pos h33] at hf
      refine go_it (t := 314) (f := 127) (L1 := [some (.ref 60), some (.int x1), some (.int x2), some (.int x3), some (.int x4), some (.int x5), some (.int x6), some (.long x7), none, some (.long x9), none, some (.int x11), none, some (.int x13), some (.int s0), none, none, none, none, none, none, none]) (st1 := []) (σ1 := q31.2) rfl h33 ?_
      refine go_e (L1 := [some (.ref 60), some (.int x1), some (.int x2), some (.int x3), some (.int x4), some (.int x5), some (.int x6), some (.long x7), none, some (.long x9), none, some (.int x11), none, none, none, none, none, none, none, none, none, none]) rfl rfl ?_
      exact fX7_join_J314_ok _ _ _ _ _ _ _ _ _ _ _ hrec30 _ hf
    · rw [if_neg h33] at hf
      refine go_if (t := 314) (f := 127) (L1 := [some (.ref 60), some (.int x1), some (.int x2), some (.int x3), some (.int x4), some (.int x5), some (.int x6), some (.long x7), none, some (.long x9), none, some (.int x11), none, some (.int x13), some (.int s0), none, none, none, none, none, none, none]) (st1 := []) (σ1 := q31.2) rfl h33 ?_
      refine go_n 3 (f := (131, [some (.ref 60), some (.int x1), some (.int x2), some (.int x3), some (.int x4), some (.int x5), some (.int x6), some (.long x7), none, some (.long x9), none, some (.int x11), none, some (.int x13), some (.int s0), none, none, none, none, none, none, none], [.int x2, .int x11, .ref 60], q31.2)) rfl ?_
      obtain ⟨q34, h35, hf⟩ := bnd hf
      refine go_c (mid := 12116) (args := [.ref 60, .int x11, .int x2]) (pc := 134) (L := [some (.ref 60), some (.int x1), some (.int x2), some (.int x3), some (.int x4), some (.int x5), some (.int x6), some (.long x7), none, some (.long x9), none, some (.int x11), none, some (.int x13), some (.int s0), none, none, none, none, none, none, none]) (st := []) (σ := q31.2) rfl ((fX7_findBounds_ok _ _ _ q34 h35).deep (Nat.le_of_ble_eq_true rfl)) ?_
      by_cases h36 : q34.1 = 0
      · rw [if_pos h36] at hf
        refine go_it (t := 314) (f := 137) (L1 := [some (.ref 60), some (.int x1), some (.int x2), some (.int x3), some (.int x4), some (.int x5), some (.int x6), some (.long x7), none, some (.long x9), none, some (.int x11), none, some (.int x13), some (.int s0), none, none, none, none, none, none, none]) (st1 := []) (σ1 := q34.2) rfl h36 ?_
        refine go_e (L1 := [some (.ref 60), some (.int x1), some (.int x2), some (.int x3), some (.int x4), some (.int x5), some (.int x6), some (.long x7), none, some (.long x9), none, some (.int x11), none, none, none, none, none, none, none, none, none, none]) rfl rfl ?_
        exact fX7_join_J314_ok _ _ _ _ _ _ _ _ _ _ _ hrec30 _ hf
      · rw [if_neg h36] at hf
        refine go_if (t := 314) (f := 137) (L1 := [some (.ref 60), some (.int x1), some (.int x2), some (.int x3), some (.int x4), some (.int x5), some (.int x6), some (.long x7), none, some (.long x9), none, some (.int x11), none, some (.int x13), some (.int s0), none, none, none, none, none, none, none]) (st1 := []) (σ1 := q34.2) rfl h36 ?_
        refine go_n 9 (f := (153, [some (.ref 60), some (.int x1), some (.int x2), some (.int x3), some (.int x4), some (.int x5), some (.int x6), some (.long x7), none, some (.long x9), none, some (.int x11), none, some (.int x13), some (.int s0), some (.int (100 - x13)), some (.int ((gi q34.2 60 41) - (100 - x13))), none, none, none, none, none], [], q34.2)) rfl ?_
        refine go_n 10 (f := (171, [some (.ref 60), some (.int x1), some (.int x2), some (.int x3), some (.int x4), some (.int x5), some (.int x6), some (.long x7), none, some (.long x9), none, some (.int x11), none, some (.int x13), some (.int s0), some (.int (100 - x13)), some (.int ((gi q34.2 60 41) - (100 - x13))), some (.int ((gi q34.2 60 42) + (100 - x13))), none, none, none, none], [.int ((gi q34.2 60 41) + (gi q34.2 60 42))], q34.2)) rfl ?_
        refine go_n 4 (f := (178, [some (.ref 60), some (.int x1), some (.int x2), some (.int x3), some (.int x4), some (.int x5), some (.int x6), some (.long x7), none, some (.long x9), none, some (.int x11), none, some (.int x13), some (.int s0), some (.int (100 - x13)), some (.int ((gi q34.2 60 41) - (100 - x13))), some (.int ((gi q34.2 60 42) + (100 - x13))), some (.long ((gi q34.2 60 41) + (gi q34.2 60 42)).toInt64), none, none, none], [.int (gi q34.2 60 55)], q34.2)) rfl ?_
        refine go_m (f := (193, [some (.ref 60), some (.int x1), some (.int x2), none, some (.int x4), some (.int x5), some (.int x6), some (.long x7), none, some (.long x9), none, some (.int x11), none, some (.int x13), none, none, some (.int ((gi q34.2 60 41) - (100 - x13))), some (.int ((gi q34.2 60 42) + (100 - x13))), some (.long ((gi q34.2 60 41) + (gi q34.2 60 42)).toInt64), none, none, none], [.int (if (gi q34.2 60 55) = 0 then ((gi q34.2 60 41) - (100 - x13)) else (if ((gi q34.2 60 41) - (100 - x13)) ≤ x3 then x3 else ((gi q34.2 60 41) - (100 - x13))))], q34.2)) ?_ (fun hJ55 => ?_)
        · generalize hz39 : (if (gi q34.2 60 55) = 0 then ((gi q34.2 60 41) - (100 - x13)) else (if ((gi q34.2 60 41) - (100 - x13)) ≤ x3 then x3 else ((gi q34.2 60 41) - (100 - x13)))) = z39 at hf ⊢
          try dsimp only at hf
          refine go_n 3 (f := (198, [some (.ref 60), some (.int x1), some (.int x2), some (.int z39), some (.int x4), some (.int x5), some (.int x6), some (.long x7), none, some (.long x9), none, some (.int x11), none, some (.int x13), none, none, some (.int ((gi q34.2 60 41) - (100 - x13))), some (.int ((gi q34.2 60 42) + (100 - x13))), some (.long ((gi q34.2 60 41) + (gi q34.2 60 42)).toInt64), none, none, none], [.int (gi q34.2 60 55)], q34.2)) rfl ?_
          refine go_m (f := (215, [some (.ref 60), some (.int x1), some (.int x2), some (.int z39), some (.int x4), none, some (.int x6), some (.long x7), none, some (.long x9), none, some (.int x11), none, some (.int x13), none, none, none, some (.int ((gi q34.2 60 42) + (100 - x13))), some (.long ((gi q34.2 60 41) + (gi q34.2 60 42)).toInt64), none, none, none], [.int (if (gi q34.2 60 55) = 0 then ((gi q34.2 60 41) - (100 - x13)) else (if x5 ≤ ((gi q34.2 60 41) - (100 - x13)) then x5 else ((gi q34.2 60 41) - (100 - x13))))], q34.2)) ?_ (fun hJ54 => ?_)
          · generalize hz42 : (if (gi q34.2 60 55) = 0 then ((gi q34.2 60 41) - (100 - x13)) else (if x5 ≤ ((gi q34.2 60 41) - (100 - x13)) then x5 else ((gi q34.2 60 41) - (100 - x13)))) = z42 at hf ⊢
            try dsimp only at hf
            refine go_n 3 (f := (221, [some (.ref 60), some (.int x1), some (.int x2), some (.int z39), some (.int x4), some (.int z42), some (.int x6), some (.long x7), none, some (.long x9), none, some (.int x11), none, some (.int x13), none, none, none, some (.int ((gi q34.2 60 42) + (100 - x13))), some (.long ((gi q34.2 60 41) + (gi q34.2 60 42)).toInt64), none, none, none], [.int (gi q34.2 60 55)], q34.2)) rfl ?_
            refine go_m (f := (238, [some (.ref 60), some (.int x1), some (.int x2), some (.int z39), none, some (.int z42), some (.int x6), some (.long x7), none, some (.long x9), none, some (.int x11), none, some (.int x13), none, none, none, some (.int ((gi q34.2 60 42) + (100 - x13))), some (.long ((gi q34.2 60 41) + (gi q34.2 60 42)).toInt64), none, none, none], [.int (if (gi q34.2 60 55) = 0 then ((gi q34.2 60 42) + (100 - x13)) else (if x4 ≤ ((gi q34.2 60 42) + (100 - x13)) then x4 else ((gi q34.2 60 42) + (100 - x13))))], q34.2)) ?_ (fun hJ53 => ?_)
            · generalize hz45 : (if (gi q34.2 60 55) = 0 then ((gi q34.2 60 42) + (100 - x13)) else (if x4 ≤ ((gi q34.2 60 42) + (100 - x13)) then x4 else ((gi q34.2 60 42) + (100 - x13)))) = z45 at hf ⊢
              try dsimp only at hf
              refine go_n 3 (f := (244, [some (.ref 60), some (.int x1), some (.int x2), some (.int z39), some (.int z45), some (.int z42), some (.int x6), some (.long x7), none, some (.long x9), none, some (.int x11), none, some (.int x13), none, none, none, some (.int ((gi q34.2 60 42) + (100 - x13))), some (.long ((gi q34.2 60 41) + (gi q34.2 60 42)).toInt64), none, none, none], [.int (gi q34.2 60 55)], q34.2)) rfl ?_
              refine go_m (f := (261, [some (.ref 60), some (.int x1), some (.int x2), some (.int z39), some (.int z45), some (.int z42), none, some (.long x7), none, some (.long x9), none, some (.int x11), none, some (.int x13), none, none, none, none, some (.long ((gi q34.2 60 41) + (gi q34.2 60 42)).toInt64), none, none, none], [.int (if (gi q34.2 60 55) = 0 then ((gi q34.2 60 42) + (100 - x13)) else (if ((gi q34.2 60 42) + (100 - x13)) ≤ x6 then x6 else ((gi q34.2 60 42) + (100 - x13))))], q34.2)) ?_ (fun hJ52 => ?_)
              · generalize hz48 : (if (gi q34.2 60 55) = 0 then ((gi q34.2 60 42) + (100 - x13)) else (if ((gi q34.2 60 42) + (100 - x13)) ≤ x6 then x6 else ((gi q34.2 60 42) + (100 - x13)))) = z48 at hf ⊢
                try dsimp only at hf
                refine go_n 6 (f := (270, [some (.ref 60), some (.int x1), some (.int x2), some (.int z39), some (.int z45), some (.int z42), some (.int z48), some (.long x7), none, some (.long x9), none, some (.int x11), none, some (.int x13), none, none, none, none, some (.long ((gi q34.2 60 41) + (gi q34.2 60 42)).toInt64), none, none, none], [.int x2, .int x11, .ref 60, .long x13.toInt64], q34.2)) rfl ?_
                obtain ⟨q49, h50, hf⟩ := bnd hf
                refine go_c (mid := 12144) (args := [.ref 60, .int x11, .int x2]) (pc := 273) (L := [some (.ref 60), some (.int x1), some (.int x2), some (.int z39), some (.int z45), some (.int z42), some (.int z48), some (.long x7), none, some (.long x9), none, some (.int x11), none, some (.int x13), none, none, none, none, some (.long ((gi q34.2 60 41) + (gi q34.2 60 42)).toInt64), none, none, none]) (st := [.long x13.toInt64]) (σ := q34.2) rfl ((fX7_weightOf_ok _ _ _ q49 h50).deep (Nat.le_of_ble_eq_true rfl)) ?_
                refine go_n 6 (f := (283, [some (.ref 60), some (.int x1), some (.int x2), some (.int z39), some (.int z45), some (.int z42), some (.int z48), some (.long (x7 + (x13.toInt64 * q49.1))), none, some (.long x9), none, some (.int x11), none, some (.int x13), none, none, none, none, some (.long ((gi q34.2 60 41) + (gi q34.2 60 42)).toInt64), none, some (.long (x13.toInt64 * q49.1)), none], [], q49.2)) rfl ?_
                refine go_n 10 (f := (301, [some (.ref 60), some (.int x1), some (.int x2), some (.int z39), some (.int z45), some (.int z42), some (.int z48), some (.long (x7 + (x13.toInt64 * q49.1))), none, some (.long (x9 + ((x13.toInt64 * q49.1) * ((gi q34.2 60 41) + (gi q34.2 60 42)).toInt64))), none, some (.int x11), none, some (.int x13), none, none, none, none, some (.long ((gi q34.2 60 41) + (gi q34.2 60 42)).toInt64), none, some (.long (x13.toInt64 * q49.1)), none], [.int (gi q49.2 60 55), .ref 82], q49.2)) rfl ?_
                refine go_n 1 (f := (303, [some (.ref 60), some (.int x1), some (.int x2), some (.int z39), some (.int z45), some (.int z42), some (.int z48), some (.long (x7 + (x13.toInt64 * q49.1))), none, some (.long (x9 + ((x13.toInt64 * q49.1) * ((gi q34.2 60 41) + (gi q34.2 60 42)).toInt64))), none, some (.int x11), none, some (.int x13), none, none, none, none, some (.long ((gi q34.2 60 41) + (gi q34.2 60 42)).toInt64), none, some (.long (x13.toInt64 * q49.1)), none], [.int x11, .int (gi q49.2 60 55), .ref 82], q49.2)) rfl ?_
                obtain ⟨h51, hf⟩ := grd hf
                refine go_iast rfl rfl rfl h51 ?_
                refine go_n 6 (f := (314, [some (.ref 60), some (.int x1), some (.int x2), some (.int z39), some (.int z45), some (.int z42), some (.int z48), some (.long (x7 + (x13.toInt64 * q49.1))), none, some (.long (x9 + ((x13.toInt64 * q49.1) * ((gi q34.2 60 41) + (gi q34.2 60 42)).toInt64))), none, some (.int x11), none, some (.int x13), none, none, none, none, some (.long ((gi q34.2 60 41) + (gi q34.2 60 42)).toInt64), none, some (.long (x13.toInt64 * q49.1)), none], [], (wi (wi q49.2 82 (gi q49.2 60 55).toNatClampNeg x11) 60 55 ((gi q49.2 60 55) + 1)))) rfl ?_
                refine go_e (L1 := [some (.ref 60), some (.int x1), some (.int x2), some (.int z39), some (.int z45), some (.int z42), some (.int z48), some (.long (x7 + (x13.toInt64 * q49.1))), none, some (.long (x9 + ((x13.toInt64 * q49.1) * ((gi q34.2 60 41) + (gi q34.2 60 42)).toInt64))), none, some (.int x11), none, none, none, none, none, none, none, none, none, none]) rfl rfl ?_
                exact fX7_join_J314_ok _ _ _ _ _ _ _ _ _ _ _ hrec30 _ hf
              · by_cases h46 : (gi q34.2 60 55) = 0
                · refine go_it (t := 254) (f := 247) (L1 := [some (.ref 60), some (.int x1), some (.int x2), some (.int z39), some (.int z45), some (.int z42), some (.int x6), some (.long x7), none, some (.long x9), none, some (.int x11), none, some (.int x13), none, none, none, some (.int ((gi q34.2 60 42) + (100 - x13))), some (.long ((gi q34.2 60 41) + (gi q34.2 60 42)).toInt64), none, none, none]) (st1 := []) (σ1 := q34.2) rfl h46 ?_
                  refine go_e (L1 := [some (.ref 60), some (.int x1), some (.int x2), some (.int z39), some (.int z45), some (.int z42), none, some (.long x7), none, some (.long x9), none, some (.int x11), none, some (.int x13), none, none, none, some (.int ((gi q34.2 60 42) + (100 - x13))), some (.long ((gi q34.2 60 41) + (gi q34.2 60 42)).toInt64), none, none, none]) rfl rfl ?_
                  refine go_n 2 (f := (261, [some (.ref 60), some (.int x1), some (.int x2), some (.int z39), some (.int z45), some (.int z42), none, some (.long x7), none, some (.long x9), none, some (.int x11), none, some (.int x13), none, none, none, some (.int ((gi q34.2 60 42) + (100 - x13))), some (.long ((gi q34.2 60 41) + (gi q34.2 60 42)).toInt64), none, none, none], [.int ((gi q34.2 60 42) + (100 - x13))], q34.2)) rfl ?_
                  refine go_e (L1 := [some (.ref 60), some (.int x1), some (.int x2), some (.int z39), some (.int z45), some (.int z42), none, some (.long x7), none, some (.long x9), none, some (.int x11), none, some (.int x13), none, none, none, none, some (.long ((gi q34.2 60 41) + (gi q34.2 60 42)).toInt64), none, none, none]) rfl rfl ?_
                  simp only [if_pos h46] at hJ52
                  first | exact hJ52 | (simp only [if_pos h46]; exact hJ52)
                · refine go_if (t := 254) (f := 247) (L1 := [some (.ref 60), some (.int x1), some (.int x2), some (.int z39), some (.int z45), some (.int z42), some (.int x6), some (.long x7), none, some (.long x9), none, some (.int x11), none, some (.int x13), none, none, none, some (.int ((gi q34.2 60 42) + (100 - x13))), some (.long ((gi q34.2 60 41) + (gi q34.2 60 42)).toInt64), none, none, none]) (st1 := []) (σ1 := q34.2) rfl h46 ?_
                  refine go_n 2 (f := (251, [some (.ref 60), some (.int x1), some (.int x2), some (.int z39), some (.int z45), some (.int z42), some (.int x6), some (.long x7), none, some (.long x9), none, some (.int x11), none, some (.int x13), none, none, none, some (.int ((gi q34.2 60 42) + (100 - x13))), some (.long ((gi q34.2 60 41) + (gi q34.2 60 42)).toInt64), none, none, none], [.int x6, .int ((gi q34.2 60 42) + (100 - x13))], q34.2)) rfl ?_
                  by_cases h47 : ((gi q34.2 60 42) + (100 - x13)) ≤ x6
                  · refine go_it (t := 259) (f := 254) (L1 := [some (.ref 60), some (.int x1), some (.int x2), some (.int z39), some (.int z45), some (.int z42), some (.int x6), some (.long x7), none, some (.long x9), none, some (.int x11), none, some (.int x13), none, none, none, some (.int ((gi q34.2 60 42) + (100 - x13))), some (.long ((gi q34.2 60 41) + (gi q34.2 60 42)).toInt64), none, none, none]) (st1 := []) (σ1 := q34.2) rfl h47 ?_
                    refine go_n 1 (f := (261, [some (.ref 60), some (.int x1), some (.int x2), some (.int z39), some (.int z45), some (.int z42), some (.int x6), some (.long x7), none, some (.long x9), none, some (.int x11), none, some (.int x13), none, none, none, some (.int ((gi q34.2 60 42) + (100 - x13))), some (.long ((gi q34.2 60 41) + (gi q34.2 60 42)).toInt64), none, none, none], [.int x6], q34.2)) rfl ?_
                    refine go_e (L1 := [some (.ref 60), some (.int x1), some (.int x2), some (.int z39), some (.int z45), some (.int z42), none, some (.long x7), none, some (.long x9), none, some (.int x11), none, some (.int x13), none, none, none, none, some (.long ((gi q34.2 60 41) + (gi q34.2 60 42)).toInt64), none, none, none]) rfl rfl ?_
                    simp only [if_neg h46, if_pos h47] at hJ52
                    first | exact hJ52 | (simp only [if_neg h46, if_pos h47]; exact hJ52)
                  · refine go_if (t := 259) (f := 254) (L1 := [some (.ref 60), some (.int x1), some (.int x2), some (.int z39), some (.int z45), some (.int z42), some (.int x6), some (.long x7), none, some (.long x9), none, some (.int x11), none, some (.int x13), none, none, none, some (.int ((gi q34.2 60 42) + (100 - x13))), some (.long ((gi q34.2 60 41) + (gi q34.2 60 42)).toInt64), none, none, none]) (st1 := []) (σ1 := q34.2) rfl h47 ?_
                    refine go_e (L1 := [some (.ref 60), some (.int x1), some (.int x2), some (.int z39), some (.int z45), some (.int z42), none, some (.long x7), none, some (.long x9), none, some (.int x11), none, some (.int x13), none, none, none, some (.int ((gi q34.2 60 42) + (100 - x13))), some (.long ((gi q34.2 60 41) + (gi q34.2 60 42)).toInt64), none, none, none]) rfl rfl ?_
                    refine go_n 2 (f := (261, [some (.ref 60), some (.int x1), some (.int x2), some (.int z39), some (.int z45), some (.int z42), none, some (.long x7), none, some (.long x9), none, some (.int x11), none, some (.int x13), none, none, none, some (.int ((gi q34.2 60 42) + (100 - x13))), some (.long ((gi q34.2 60 41) + (gi q34.2 60 42)).toInt64), none, none, none], [.int ((gi q34.2 60 42) + (100 - x13))], q34.2)) rfl ?_
                    refine go_e (L1 := [some (.ref 60), some (.int x1), some (.int x2), some (.int z39), some (.int z45), some (.int z42), none, some (.long x7), none, some (.long x9), none, some (.int x11), none, some (.int x13), none, none, none, none, some (.long ((gi q34.2 60 41) + (gi q34.2 60 42)).toInt64), none, none, none]) rfl rfl ?_
                    simp only [if_neg h46, if_neg h47] at hJ52
                    first | exact hJ52 | (simp only [if_neg h46, if_neg h47]; exact hJ52)
            · by_cases h43 : (gi q34.2 60 55) = 0
              · refine go_it (t := 231) (f := 224) (L1 := [some (.ref 60), some (.int x1), some (.int x2), some (.int z39), some (.int x4), some (.int z42), some (.int x6), some (.long x7), none, some (.long x9), none, some (.int x11), none, some (.int x13), none, none, none, some (.int ((gi q34.2 60 42) + (100 - x13))), some (.long ((gi q34.2 60 41) + (gi q34.2 60 42)).toInt64), none, none, none]) (st1 := []) (σ1 := q34.2) rfl h43 ?_
                refine go_e (L1 := [some (.ref 60), some (.int x1), some (.int x2), some (.int z39), none, some (.int z42), some (.int x6), some (.long x7), none, some (.long x9), none, some (.int x11), none, some (.int x13), none, none, none, some (.int ((gi q34.2 60 42) + (100 - x13))), some (.long ((gi q34.2 60 41) + (gi q34.2 60 42)).toInt64), none, none, none]) rfl rfl ?_
                refine go_n 2 (f := (238, [some (.ref 60), some (.int x1), some (.int x2), some (.int z39), none, some (.int z42), some (.int x6), some (.long x7), none, some (.long x9), none, some (.int x11), none, some (.int x13), none, none, none, some (.int ((gi q34.2 60 42) + (100 - x13))), some (.long ((gi q34.2 60 41) + (gi q34.2 60 42)).toInt64), none, none, none], [.int ((gi q34.2 60 42) + (100 - x13))], q34.2)) rfl ?_
                refine go_e (L1 := [some (.ref 60), some (.int x1), some (.int x2), some (.int z39), none, some (.int z42), some (.int x6), some (.long x7), none, some (.long x9), none, some (.int x11), none, some (.int x13), none, none, none, some (.int ((gi q34.2 60 42) + (100 - x13))), some (.long ((gi q34.2 60 41) + (gi q34.2 60 42)).toInt64), none, none, none]) rfl rfl ?_
                simp only [if_pos h43] at hJ53
                first | exact hJ53 | (simp only [if_pos h43]; exact hJ53)
              · refine go_if (t := 231) (f := 224) (L1 := [some (.ref 60), some (.int x1), some (.int x2), some (.int z39), some (.int x4), some (.int z42), some (.int x6), some (.long x7), none, some (.long x9), none, some (.int x11), none, some (.int x13), none, none, none, some (.int ((gi q34.2 60 42) + (100 - x13))), some (.long ((gi q34.2 60 41) + (gi q34.2 60 42)).toInt64), none, none, none]) (st1 := []) (σ1 := q34.2) rfl h43 ?_
                refine go_n 2 (f := (228, [some (.ref 60), some (.int x1), some (.int x2), some (.int z39), some (.int x4), some (.int z42), some (.int x6), some (.long x7), none, some (.long x9), none, some (.int x11), none, some (.int x13), none, none, none, some (.int ((gi q34.2 60 42) + (100 - x13))), some (.long ((gi q34.2 60 41) + (gi q34.2 60 42)).toInt64), none, none, none], [.int x4, .int ((gi q34.2 60 42) + (100 - x13))], q34.2)) rfl ?_
                by_cases h44 : x4 ≤ ((gi q34.2 60 42) + (100 - x13))
                · refine go_it (t := 236) (f := 231) (L1 := [some (.ref 60), some (.int x1), some (.int x2), some (.int z39), some (.int x4), some (.int z42), some (.int x6), some (.long x7), none, some (.long x9), none, some (.int x11), none, some (.int x13), none, none, none, some (.int ((gi q34.2 60 42) + (100 - x13))), some (.long ((gi q34.2 60 41) + (gi q34.2 60 42)).toInt64), none, none, none]) (st1 := []) (σ1 := q34.2) rfl h44 ?_
                  refine go_n 1 (f := (238, [some (.ref 60), some (.int x1), some (.int x2), some (.int z39), some (.int x4), some (.int z42), some (.int x6), some (.long x7), none, some (.long x9), none, some (.int x11), none, some (.int x13), none, none, none, some (.int ((gi q34.2 60 42) + (100 - x13))), some (.long ((gi q34.2 60 41) + (gi q34.2 60 42)).toInt64), none, none, none], [.int x4], q34.2)) rfl ?_
                  refine go_e (L1 := [some (.ref 60), some (.int x1), some (.int x2), some (.int z39), none, some (.int z42), some (.int x6), some (.long x7), none, some (.long x9), none, some (.int x11), none, some (.int x13), none, none, none, some (.int ((gi q34.2 60 42) + (100 - x13))), some (.long ((gi q34.2 60 41) + (gi q34.2 60 42)).toInt64), none, none, none]) rfl rfl ?_
                  simp only [if_neg h43, if_pos h44] at hJ53
                  first | exact hJ53 | (simp only [if_neg h43, if_pos h44]; exact hJ53)
                · refine go_if (t := 236) (f := 231) (L1 := [some (.ref 60), some (.int x1), some (.int x2), some (.int z39), some (.int x4), some (.int z42), some (.int x6), some (.long x7), none, some (.long x9), none, some (.int x11), none, some (.int x13), none, none, none, some (.int ((gi q34.2 60 42) + (100 - x13))), some (.long ((gi q34.2 60 41) + (gi q34.2 60 42)).toInt64), none, none, none]) (st1 := []) (σ1 := q34.2) rfl h44 ?_
                  refine go_e (L1 := [some (.ref 60), some (.int x1), some (.int x2), some (.int z39), none, some (.int z42), some (.int x6), some (.long x7), none, some (.long x9), none, some (.int x11), none, some (.int x13), none, none, none, some (.int ((gi q34.2 60 42) + (100 - x13))), some (.long ((gi q34.2 60 41) + (gi q34.2 60 42)).toInt64), none, none, none]) rfl rfl ?_
                  refine go_n 2 (f := (238, [some (.ref 60), some (.int x1), some (.int x2), some (.int z39), none, some (.int z42), some (.int x6), some (.long x7), none, some (.long x9), none, some (.int x11), none, some (.int x13), none, none, none, some (.int ((gi q34.2 60 42) + (100 - x13))), some (.long ((gi q34.2 60 41) + (gi q34.2 60 42)).toInt64), none, none, none], [.int ((gi q34.2 60 42) + (100 - x13))], q34.2)) rfl ?_
                  refine go_e (L1 := [some (.ref 60), some (.int x1), some (.int x2), some (.int z39), none, some (.int z42), some (.int x6), some (.long x7), none, some (.long x9), none, some (.int x11), none, some (.int x13), none, none, none, some (.int ((gi q34.2 60 42) + (100 - x13))), some (.long ((gi q34.2 60 41) + (gi q34.2 60 42)).toInt64), none, none, none]) rfl rfl ?_
                  simp only [if_neg h43, if_neg h44] at hJ53
                  first | exact hJ53 | (simp only [if_neg h43, if_neg h44]; exact hJ53)
          · by_cases h40 : (gi q34.2 60 55) = 0
            · refine go_it (t := 208) (f := 201) (L1 := [some (.ref 60), some (.int x1), some (.int x2), some (.int z39), some (.int x4), some (.int x5), some (.int x6), some (.long x7), none, some (.long x9), none, some (.int x11), none, some (.int x13), none, none, some (.int ((gi q34.2 60 41) - (100 - x13))), some (.int ((gi q34.2 60 42) + (100 - x13))), some (.long ((gi q34.2 60 41) + (gi q34.2 60 42)).toInt64), none, none, none]) (st1 := []) (σ1 := q34.2) rfl h40 ?_
              refine go_e (L1 := [some (.ref 60), some (.int x1), some (.int x2), some (.int z39), some (.int x4), none, some (.int x6), some (.long x7), none, some (.long x9), none, some (.int x11), none, some (.int x13), none, none, some (.int ((gi q34.2 60 41) - (100 - x13))), some (.int ((gi q34.2 60 42) + (100 - x13))), some (.long ((gi q34.2 60 41) + (gi q34.2 60 42)).toInt64), none, none, none]) rfl rfl ?_
              refine go_n 2 (f := (215, [some (.ref 60), some (.int x1), some (.int x2), some (.int z39), some (.int x4), none, some (.int x6), some (.long x7), none, some (.long x9), none, some (.int x11), none, some (.int x13), none, none, some (.int ((gi q34.2 60 41) - (100 - x13))), some (.int ((gi q34.2 60 42) + (100 - x13))), some (.long ((gi q34.2 60 41) + (gi q34.2 60 42)).toInt64), none, none, none], [.int ((gi q34.2 60 41) - (100 - x13))], q34.2)) rfl ?_
              refine go_e (L1 := [some (.ref 60), some (.int x1), some (.int x2), some (.int z39), some (.int x4), none, some (.int x6), some (.long x7), none, some (.long x9), none, some (.int x11), none, some (.int x13), none, none, none, some (.int ((gi q34.2 60 42) + (100 - x13))), some (.long ((gi q34.2 60 41) + (gi q34.2 60 42)).toInt64), none, none, none]) rfl rfl ?_
              simp only [if_pos h40] at hJ54
              first | exact hJ54 | (simp only [if_pos h40]; exact hJ54)
            · refine go_if (t := 208) (f := 201) (L1 := [some (.ref 60), some (.int x1), some (.int x2), some (.int z39), some (.int x4), some (.int x5), some (.int x6), some (.long x7), none, some (.long x9), none, some (.int x11), none, some (.int x13), none, none, some (.int ((gi q34.2 60 41) - (100 - x13))), some (.int ((gi q34.2 60 42) + (100 - x13))), some (.long ((gi q34.2 60 41) + (gi q34.2 60 42)).toInt64), none, none, none]) (st1 := []) (σ1 := q34.2) rfl h40 ?_
              refine go_n 2 (f := (205, [some (.ref 60), some (.int x1), some (.int x2), some (.int z39), some (.int x4), some (.int x5), some (.int x6), some (.long x7), none, some (.long x9), none, some (.int x11), none, some (.int x13), none, none, some (.int ((gi q34.2 60 41) - (100 - x13))), some (.int ((gi q34.2 60 42) + (100 - x13))), some (.long ((gi q34.2 60 41) + (gi q34.2 60 42)).toInt64), none, none, none], [.int x5, .int ((gi q34.2 60 41) - (100 - x13))], q34.2)) rfl ?_
              by_cases h41 : x5 ≤ ((gi q34.2 60 41) - (100 - x13))
              · refine go_it (t := 213) (f := 208) (L1 := [some (.ref 60), some (.int x1), some (.int x2), some (.int z39), some (.int x4), some (.int x5), some (.int x6), some (.long x7), none, some (.long x9), none, some (.int x11), none, some (.int x13), none, none, some (.int ((gi q34.2 60 41) - (100 - x13))), some (.int ((gi q34.2 60 42) + (100 - x13))), some (.long ((gi q34.2 60 41) + (gi q34.2 60 42)).toInt64), none, none, none]) (st1 := []) (σ1 := q34.2) rfl h41 ?_
                refine go_n 1 (f := (215, [some (.ref 60), some (.int x1), some (.int x2), some (.int z39), some (.int x4), some (.int x5), some (.int x6), some (.long x7), none, some (.long x9), none, some (.int x11), none, some (.int x13), none, none, some (.int ((gi q34.2 60 41) - (100 - x13))), some (.int ((gi q34.2 60 42) + (100 - x13))), some (.long ((gi q34.2 60 41) + (gi q34.2 60 42)).toInt64), none, none, none], [.int x5], q34.2)) rfl ?_
                refine go_e (L1 := [some (.ref 60), some (.int x1), some (.int x2), some (.int z39), some (.int x4), none, some (.int x6), some (.long x7), none, some (.long x9), none, some (.int x11), none, some (.int x13), none, none, none, some (.int ((gi q34.2 60 42) + (100 - x13))), some (.long ((gi q34.2 60 41) + (gi q34.2 60 42)).toInt64), none, none, none]) rfl rfl ?_
                simp only [if_neg h40, if_pos h41] at hJ54
                first | exact hJ54 | (simp only [if_neg h40, if_pos h41]; exact hJ54)
              · refine go_if (t := 213) (f := 208) (L1 := [some (.ref 60), some (.int x1), some (.int x2), some (.int z39), some (.int x4), some (.int x5), some (.int x6), some (.long x7), none, some (.long x9), none, some (.int x11), none, some (.int x13), none, none, some (.int ((gi q34.2 60 41) - (100 - x13))), some (.int ((gi q34.2 60 42) + (100 - x13))), some (.long ((gi q34.2 60 41) + (gi q34.2 60 42)).toInt64), none, none, none]) (st1 := []) (σ1 := q34.2) rfl h41 ?_
                refine go_e (L1 := [some (.ref 60), some (.int x1), some (.int x2), some (.int z39), some (.int x4), none, some (.int x6), some (.long x7), none, some (.long x9), none, some (.int x11), none, some (.int x13), none, none, some (.int ((gi q34.2 60 41) - (100 - x13))), some (.int ((gi q34.2 60 42) + (100 - x13))), some (.long ((gi q34.2 60 41) + (gi q34.2 60 42)).toInt64), none, none, none]) rfl rfl ?_
                refine go_n 2 (f := (215, [some (.ref 60), some (.int x1), some (.int x2), some (.int z39), some (.int x4), none, some (.int x6), some (.long x7), none, some (.long x9), none, some (.int x11), none, some (.int x13), none, none, some (.int ((gi q34.2 60 41) - (100 - x13))), some (.int ((gi q34.2 60 42) + (100 - x13))), some (.long ((gi q34.2 60 41) + (gi q34.2 60 42)).toInt64), none, none, none], [.int ((gi q34.2 60 41) - (100 - x13))], q34.2)) rfl ?_
                refine go_e (L1 := [some (.ref 60), some (.int x1), some (.int x2), some (.int z39), some (.int x4), none, some (.int x6), some (.long x7), none, some (.long x9), none, some (.int x11), none, some (.int x13), none, none, none, some (.int ((gi q34.2 60 42) + (100 - x13))), some (.long ((gi q34.2 60 41) + (gi q34.2 60 42)).toInt64), none, none, none]) rfl rfl ?_
                simp only [if_neg h40, if_neg h41] at hJ54
                first | exact hJ54 | (simp only [if_neg h40, if_neg h41]; exact hJ54)
        · by_cases h37 : (gi q34.2 60 55) = 0
          · refine go_it (t := 187) (f := 181) (L1 := [some (.ref 60), some (.int x1), some (.int x2), some (.int x3), some (.int x4), some (.int x5), some (.int x6), some (.long x7), none, some (.long x9), none, some (.int x11), none, some (.int x13), some (.int s0), some (.int (100 - x13)), some (.int ((gi q34.2 60 41) - (100 - x13))), some (.int ((gi q34.2 60 42) + (100 - x13))), some (.long ((gi q34.2 60 41) + (gi q34.2 60 42)).toInt64), none, none, none]) (st1 := []) (σ1 := q34.2) rfl h37 ?_
            refine go_e (L1 := [some (.ref 60), some (.int x1), some (.int x2), none, some (.int x4), some (.int x5), some (.int x6), some (.long x7), none, some (.long x9), none, some (.int x11), none, some (.int x13), none, none, some (.int ((gi q34.2 60 41) - (100 - x13))), some (.int ((gi q34.2 60 42) + (100 - x13))), some (.long ((gi q34.2 60 41) + (gi q34.2 60 42)).toInt64), none, none, none]) rfl rfl ?_
            refine go_n 2 (f := (193, [some (.ref 60), some (.int x1), some (.int x2), none, some (.int x4), some (.int x5), some (.int x6), some (.long x7), none, some (.long x9), none, some (.int x11), none, some (.int x13), none, none, some (.int ((gi q34.2 60 41) - (100 - x13))), some (.int ((gi q34.2 60 42) + (100 - x13))), some (.long ((gi q34.2 60 41) + (gi q34.2 60 42)).toInt64), none, none, none], [.int ((gi q34.2 60 41) - (100 - x13))], q34.2)) rfl ?_
            refine go_e (L1 := [some (.ref 60), some (.int x1), some (.int x2), none, some (.int x4), some (.int x5), some (.int x6), some (.long x7), none, some (.long x9), none, some (.int x11), none, some (.int x13), none, none, some (.int ((gi q34.2 60 41) - (100 - x13))), some (.int ((gi q34.2 60 42) + (100 - x13))), some (.long ((gi q34.2 60 41) + (gi q34.2 60 42)).toInt64), none, none, none]) rfl rfl ?_
            simp only [if_pos h37] at hJ55
            first | exact hJ55 | (simp only [if_pos h37]; exact hJ55)
          · refine go_if (t := 187) (f := 181) (L1 := [some (.ref 60), some (.int x1), some (.int x2), some (.int x3), some (.int x4), some (.int x5), some (.int x6), some (.long x7), none, some (.long x9), none, some (.int x11), none, some (.int x13), some (.int s0), some (.int (100 - x13)), some (.int ((gi q34.2 60 41) - (100 - x13))), some (.int ((gi q34.2 60 42) + (100 - x13))), some (.long ((gi q34.2 60 41) + (gi q34.2 60 42)).toInt64), none, none, none]) (st1 := []) (σ1 := q34.2) rfl h37 ?_
            refine go_n 2 (f := (184, [some (.ref 60), some (.int x1), some (.int x2), some (.int x3), some (.int x4), some (.int x5), some (.int x6), some (.long x7), none, some (.long x9), none, some (.int x11), none, some (.int x13), some (.int s0), some (.int (100 - x13)), some (.int ((gi q34.2 60 41) - (100 - x13))), some (.int ((gi q34.2 60 42) + (100 - x13))), some (.long ((gi q34.2 60 41) + (gi q34.2 60 42)).toInt64), none, none, none], [.int x3, .int ((gi q34.2 60 41) - (100 - x13))], q34.2)) rfl ?_
            by_cases h38 : ((gi q34.2 60 41) - (100 - x13)) ≤ x3
            · refine go_it (t := 192) (f := 187) (L1 := [some (.ref 60), some (.int x1), some (.int x2), some (.int x3), some (.int x4), some (.int x5), some (.int x6), some (.long x7), none, some (.long x9), none, some (.int x11), none, some (.int x13), some (.int s0), some (.int (100 - x13)), some (.int ((gi q34.2 60 41) - (100 - x13))), some (.int ((gi q34.2 60 42) + (100 - x13))), some (.long ((gi q34.2 60 41) + (gi q34.2 60 42)).toInt64), none, none, none]) (st1 := []) (σ1 := q34.2) rfl h38 ?_
              refine go_n 1 (f := (193, [some (.ref 60), some (.int x1), some (.int x2), some (.int x3), some (.int x4), some (.int x5), some (.int x6), some (.long x7), none, some (.long x9), none, some (.int x11), none, some (.int x13), some (.int s0), some (.int (100 - x13)), some (.int ((gi q34.2 60 41) - (100 - x13))), some (.int ((gi q34.2 60 42) + (100 - x13))), some (.long ((gi q34.2 60 41) + (gi q34.2 60 42)).toInt64), none, none, none], [.int x3], q34.2)) rfl ?_
              refine go_e (L1 := [some (.ref 60), some (.int x1), some (.int x2), none, some (.int x4), some (.int x5), some (.int x6), some (.long x7), none, some (.long x9), none, some (.int x11), none, some (.int x13), none, none, some (.int ((gi q34.2 60 41) - (100 - x13))), some (.int ((gi q34.2 60 42) + (100 - x13))), some (.long ((gi q34.2 60 41) + (gi q34.2 60 42)).toInt64), none, none, none]) rfl rfl ?_
              simp only [if_neg h37, if_pos h38] at hJ55
              first | exact hJ55 | (simp only [if_neg h37, if_pos h38]; exact hJ55)
            · refine go_if (t := 192) (f := 187) (L1 := [some (.ref 60), some (.int x1), some (.int x2), some (.int x3), some (.int x4), some (.int x5), some (.int x6), some (.long x7), none, some (.long x9), none, some (.int x11), none, some (.int x13), some (.int s0), some (.int (100 - x13)), some (.int ((gi q34.2 60 41) - (100 - x13))), some (.int ((gi q34.2 60 42) + (100 - x13))), some (.long ((gi q34.2 60 41) + (gi q34.2 60 42)).toInt64), none, none, none]) (st1 := []) (σ1 := q34.2) rfl h38 ?_
              refine go_e (L1 := [some (.ref 60), some (.int x1), some (.int x2), none, some (.int x4), some (.int x5), some (.int x6), some (.long x7), none, some (.long x9), none, some (.int x11), none, some (.int x13), none, none, some (.int ((gi q34.2 60 41) - (100 - x13))), some (.int ((gi q34.2 60 42) + (100 - x13))), some (.long ((gi q34.2 60 41) + (gi q34.2 60 42)).toInt64), none, none, none]) rfl rfl ?_
              refine go_n 2 (f := (193, [some (.ref 60), some (.int x1), some (.int x2), none, some (.int x4), some (.int x5), some (.int x6), some (.long x7), none, some (.long x9), none, some (.int x11), none, some (.int x13), none, none, some (.int ((gi q34.2 60 41) - (100 - x13))), some (.int ((gi q34.2 60 42) + (100 - x13))), some (.long ((gi q34.2 60 41) + (gi q34.2 60 42)).toInt64), none, none, none], [.int ((gi q34.2 60 41) - (100 - x13))], q34.2)) rfl ?_
              refine go_e (L1 := [some (.ref 60), some (.int x1), some (.int x2), none, some (.int x4), some (.int x5), some (.int x6), some (.long x7), none, some (.long x9), none, some (.int x11), none, some (.int x13), none, none, some (.int ((gi q34.2 60 41) - (100 - x13))), some (.int ((gi q34.2 60 42) + (100 - x13))), some (.long ((gi q34.2 60 41) + (gi q34.2 60 42)).toInt64), none, none, none]) rfl rfl ?_
              simp only [if_neg h37, if_neg h38] at hJ55
              first | exact hJ55 | (simp only [if_neg h37, if_neg h38]; exact hJ55)
def fX7_join_J110 (x1 : Int32) (x2 : Int32) (x3 : Int32) (x4 : Int32) (x5 : Int32) (x6 : Int32) (x7 : Int64) (x9 : Int64) (x11 : Int32) (x13 : Int32) (rec30 : (Int32 × Int32 × Int32 × Int32 × Int64 × Int64 × Int32 × Sg) → Option Sg) (σ : Sg) : Option Sg :=
  fX7_join_J111 x1 x2 x3 x4 x5 x6 x7 x9 x11 x13 0 rec30 σ
set_option maxHeartbeats 1500000 in
theorem fX7_join_J110_ok (x1 : Int32) (x2 : Int32) (x3 : Int32) (x4 : Int32) (x5 : Int32) (x6 : Int32) (x7 : Int64) (x9 : Int64) (x11 : Int32) (x13 : Int32) (rec30 : (Int32 × Int32 × Int32 × Int32 × Int64 × Int64 × Int32 × Sg) → Option Sg) (σ : Sg) (hrec30 : ∀ (y3 : Int32) (y4 : Int32) (y5 : Int32) (y6 : Int32) (y7 : Int64) (y9 : Int64) (y11 : Int32) (τ : Sg) (r : Sg), rec30 (y3, y4, y5, y6, y7, y9, y11, τ) = some r → Go true 11 iX7_join (30, [some (.ref 60), some (.int x1), some (.int x2), some (.int y3), some (.int y4), some (.int y5), some (.int y6), some (.long y7), none, some (.long y9), none, some (.int y11), none, none, none, none, none, none, none, none, none, none], [], τ) (.inl none, r)) (r : Sg) (hf : fX7_join_J110 x1 x2 x3 x4 x5 x6 x7 x9 x11 x13 rec30 σ = some r) : Go true 11 iX7_join (110, [some (.ref 60), some (.int x1), some (.int x2), some (.int x3), some (.int x4), some (.int x5), some (.int x6), some (.long x7), none, some (.long x9), none, some (.int x11), none, some (.int x13), none, none, none, none, none, none, none, none], [], σ) (.inl none, r) := by
  unfold fX7_join_J110 at hf
  refine go_n 1 (f := (111, [some (.ref 60), some (.int x1), some (.int x2), some (.int x3), some (.int x4), some (.int x5), some (.int x6), some (.long x7), none, some (.long x9), none, some (.int x11), none, some (.int x13), none, none, none, none, none, none, none, none], [.int 0], σ)) rfl ?_
  exact fX7_join_J111_ok _ _ _ _ _ _ _ _ _ _ _ _ _ hrec30 _ hf
def fX7_join_L30 (x1 : Int32) (x2 : Int32)  (rec30 : (Int32 × Int32 × Int32 × Int32 × Int64 × Int64 × Int32 × Sg) → Option Sg) (s : Int32 × Int32 × Int32 × Int32 × Int64 × Int64 × Int32 × Sg) : Option Sg :=
  match s with
  | (x3, x4, x5, x6, x7, x9, x11, σ) => if (gi σ 61 2) ≤ x11 then if (gi σ 60 55) ≠ 0 then ((fun (z4 : Int32) => ((fun (z6 : Int32) => ((fun (z8 : Int32) => if x7 ≠ 0 then (fX7_floor x9 (2 * x7)).bind fun q10 => fX7_join_J482 q10  (wi (wi (wi σ 60 59 z4) 60 56 z6) 60 57 z8) else (fX7_floor (z6.toInt64 + z8.toInt64) 2).bind fun q12 => fX7_join_J482 q12  (wi (wi (wi σ 60 59 z4) 60 56 z6) 60 57 z8)) (if z4 = 0 then x4 else x6))) (if z4 = 0 then x3 else x5))) ((if x3 ≤ x4 then 0 else 1) : Int32)) else (fX7_findDate x2 1 σ).bind fun q17 => (fX7_placeAt x1).bind fun q19 => if inb (q19 + (gi q17 60 6)) 39698 then (fX7_placeAt x1).bind fun q22 => if inb ((q22 + 12) + (gi q17 60 6)) 39698 then some (wi (wi (wi q17 60 56 ((gi q17 61 (q19 + (gi q17 60 6)).toNatClampNeg) - (gi q17 61 ((q22 + 12) + (gi q17 60 6)).toNatClampNeg))) 60 57 ((gi q17 61 (q19 + (gi q17 60 6)).toNatClampNeg) + (gi q17 61 ((q22 + 12) + (gi q17 60 6)).toNatClampNeg))) 60 58 (gi q17 61 (q19 + (gi q17 60 6)).toNatClampNeg)) else none else none else (fX7_at x11 σ).bind fun q25 => (fX7_likeOf x1 q25 σ).bind fun q27 => if q25 = (gi σ 60 54) then fX7_join_J110 x1 x2 x3 x4 x5 x6 x7 x9 x11 q27 rec30 σ else if q27 ≤ 0 then fX7_join_J110 x1 x2 x3 x4 x5 x6 x7 x9 x11 q27 rec30 σ else if inb x11 200 then if (gi σ 65 x11.toNatClampNeg) ≠ 1 then fX7_join_J110 x1 x2 x3 x4 x5 x6 x7 x9 x11 q27 rec30 σ else if inb x11 200 then (fX7_sourceOf x11 σ).bind fun q60 => if inb q60 16 then ((fun (z64 : Int32) => if z64 = 0 then fX7_join_J314 x1 x2 x3 x4 x5 x6 x7 x9 x11 rec30 σ else (fX7_doesCount x11 σ).bind fun q66 => if q66.1 = 0 then fX7_join_J314 x1 x2 x3 x4 x5 x6 x7 x9 x11 rec30 q66.2 else (fX7_findBounds x11 x2 q66.2).bind fun q69 => if q69.1 = 0 then fX7_join_J314 x1 x2 x3 x4 x5 x6 x7 x9 x11 rec30 q69.2 else ((fun (z74 : Int32) => ((fun (z77 : Int32) => ((fun (z80 : Int32) => ((fun (z83 : Int32) => (fX7_weightOf x11 x2 q69.2).bind fun q84 => if inb (gi q84.2 60 55) 200 then fX7_join_J314 x1 x2 z74 z80 z77 z83 (x7 + (q27.toInt64 * q84.1)) (x9 + ((q27.toInt64 * q84.1) * ((gi q69.2 60 41) + (gi q69.2 60 42)).toInt64)) x11 rec30 (wi (wi q84.2 82 (gi q84.2 60 55).toNatClampNeg x11) 60 55 ((gi q84.2 60 55) + 1)) else none) (if (gi q69.2 60 55) = 0 then ((gi q69.2 60 42) + (100 - q27)) else (if ((gi q69.2 60 42) + (100 - q27)) ≤ x6 then x6 else ((gi q69.2 60 42) + (100 - q27)))))) (if (gi q69.2 60 55) = 0 then ((gi q69.2 60 42) + (100 - q27)) else (if x4 ≤ ((gi q69.2 60 42) + (100 - q27)) then x4 else ((gi q69.2 60 42) + (100 - q27)))))) (if (gi q69.2 60 55) = 0 then ((gi q69.2 60 41) - (100 - q27)) else (if x5 ≤ ((gi q69.2 60 41) - (100 - q27)) then x5 else ((gi q69.2 60 41) - (100 - q27)))))) (if (gi q69.2 60 55) = 0 then ((gi q69.2 60 41) - (100 - q27)) else (if ((gi q69.2 60 41) - (100 - q27)) ≤ x3 then x3 else ((gi q69.2 60 41) - (100 - q27)))))) ((if ((gi σ 64 x11.toNatClampNeg) + (gi σ 81 q60.toNatClampNeg)) ≠ x2 then 0 else 1) : Int32)) else none else none else none
set_option maxHeartbeats 1500000 in
theorem fX7_join_L30_ok (x1 : Int32) (x2 : Int32)   : ∀ (n : Nat) (x3 : Int32) (x4 : Int32) (x5 : Int32) (x6 : Int32) (x7 : Int64) (x9 : Int64) (x11 : Int32) (σ : Sg) (r : Sg), lp (fX7_join_L30 x1 x2 ) n (x3, x4, x5, x6, x7, x9, x11, σ) = some r → Go true 11 iX7_join (30, [some (.ref 60), some (.int x1), some (.int x2), some (.int x3), some (.int x4), some (.int x5), some (.int x6), some (.long x7), none, some (.long x9), none, some (.int x11), none, none, none, none, none, none, none, none, none, none], [], σ) (.inl none, r) := by
  intro n
  induction n with
  | zero => intro x3 x4 x5 x6 x7 x9 x11 σ r hf; cases hf
  | succ n ih =>
    intro x3 x4 x5 x6 x7 x9 x11 σ r hf
    have hf : fX7_join_L30 x1 x2  (lp (fX7_join_L30 x1 x2 ) n) (x3, x4, x5, x6, x7, x9, x11, σ) = some r := hf
    have hrec30 := ih
    generalize lp (fX7_join_L30 x1 x2 ) n = rec30 at hf hrec30
    unfold fX7_join_L30 at hf
    dsimp only at hf
    refine go_n 5 (f := (38, [some (.ref 60), some (.int x1), some (.int x2), some (.int x3), some (.int x4), some (.int x5), some (.int x6), some (.long x7), none, some (.long x9), none, some (.int x11), none, none, none, none, none, none, none, none, none, none], [.int (gi σ 61 2), .int x11], σ)) rfl ?_
    by_cases h1 : (gi σ 61 2) ≤ x11
    · rw [if_pos h1] at hf
      refine go_it (t := 320) (f := 41) (L1 := [some (.ref 60), some (.int x1), some (.int x2), some (.int x3), some (.int x4), some (.int x5), some (.int x6), some (.long x7), none, some (.long x9), none, some (.int x11), none, none, none, none, none, none, none, none, none, none]) (st1 := []) (σ1 := σ) rfl h1 ?_
      refine go_n 2 (f := (324, [some (.ref 60), some (.int x1), some (.int x2), some (.int x3), some (.int x4), some (.int x5), some (.int x6), some (.long x7), none, some (.long x9), none, some (.int x11), none, none, none, none, none, none, none, none, none, none], [.int (gi σ 60 55)], σ)) rfl ?_
      by_cases h2 : (gi σ 60 55) ≠ 0
      · rw [if_pos h2] at hf
        refine go_it (t := 393) (f := 327) (L1 := [some (.ref 60), some (.int x1), some (.int x2), some (.int x3), some (.int x4), some (.int x5), some (.int x6), some (.long x7), none, some (.long x9), none, some (.int x11), none, none, none, none, none, none, none, none, none, none]) (st1 := []) (σ1 := σ) rfl h2 ?_
        refine go_n 3 (f := (397, [some (.ref 60), some (.int x1), some (.int x2), some (.int x3), some (.int x4), some (.int x5), some (.int x6), some (.long x7), none, some (.long x9), none, some (.int x11), none, none, none, none, none, none, none, none, none, none], [.int x4, .int x3, .ref 60], σ)) rfl ?_
        refine go_m (f := (405, [some (.ref 60), none, none, some (.int x3), some (.int x4), some (.int x5), some (.int x6), some (.long x7), none, some (.long x9), none, none, none, none, none, none, none, none, none, none, none, none], [.int ((if x3 ≤ x4 then 0 else 1) : Int32), .ref 60], σ)) ?_ (fun hJ16 => ?_)
        · generalize hz4 : ((if x3 ≤ x4 then 0 else 1) : Int32) = z4 at hf ⊢
          have oz4 : am_ok 3 z4 = true := hz4 ▸ (okb rfl rfl)
          try dsimp only at hf
          refine go_puti rfl rfl rfl rfl rfl oz4 rfl ?_
          refine go_n 3 (f := (413, [some (.ref 60), none, none, some (.int x3), some (.int x4), some (.int x5), some (.int x6), some (.long x7), none, some (.long x9), none, none, none, none, none, none, none, none, none, none, none, none], [.int z4, .ref 60], (wi σ 60 59 z4))) rfl ?_
          refine go_m (f := (422, [some (.ref 60), none, none, none, some (.int x4), none, some (.int x6), some (.long x7), none, some (.long x9), none, none, none, none, none, none, none, none, none, none, none, none], [.int (if z4 = 0 then x3 else x5), .ref 60], (wi σ 60 59 z4))) ?_ (fun hJ15 => ?_)
          · generalize hz6 : (if z4 = 0 then x3 else x5) = z6 at hf ⊢
            try dsimp only at hf
            refine go_n 4 (f := (430, [some (.ref 60), none, none, none, some (.int x4), none, some (.int x6), some (.long x7), none, some (.long x9), none, none, none, none, none, none, none, none, none, none, none, none], [.int z4, .ref 60], (wi (wi σ 60 59 z4) 60 56 z6))) rfl ?_
            refine go_m (f := (440, [some (.ref 60), none, none, none, none, none, none, some (.long x7), none, some (.long x9), none, none, none, none, none, none, none, none, none, none, none, none], [.int (if z4 = 0 then x4 else x6), .ref 60], (wi (wi σ 60 59 z4) 60 56 z6))) ?_ (fun hJ14 => ?_)
            · generalize hz8 : (if z4 = 0 then x4 else x6) = z8 at hf ⊢
              try dsimp only at hf
              refine go_n 5 (f := (448, [some (.ref 60), none, none, none, none, none, none, some (.long x7), none, some (.long x9), none, none, none, none, none, none, none, none, none, none, none, none], [.int (lg_cmp x7 0), .ref 60], (wi (wi (wi σ 60 59 z4) 60 56 z6) 60 57 z8))) rfl ?_
              by_cases h9 : x7 ≠ 0
              · rw [if_pos h9] at hf
                refine go_it (t := 471) (f := 451) (L1 := [some (.ref 60), none, none, none, none, none, none, some (.long x7), none, some (.long x9), none, none, none, none, none, none, none, none, none, none, none, none]) (st1 := [.ref 60]) (σ1 := (wi (wi (wi σ 60 59 z4) 60 56 z6) 60 57 z8)) rfl ((lgc_ne x7 0).mpr h9) ?_
                refine go_n 4 (f := (479, [some (.ref 60), none, none, none, none, none, none, some (.long x7), none, some (.long x9), none, none, none, none, none, none, none, none, none, none, none, none], [.long (2 * x7), .long x9, .ref 60], (wi (wi (wi σ 60 59 z4) 60 56 z6) 60 57 z8))) rfl ?_
                obtain ⟨q10, h11, hf⟩ := bnd hf
                refine go_c (mid := 12145) (args := [.long x9, .long (2 * x7)]) (pc := 482) (L := [some (.ref 60), none, none, none, none, none, none, some (.long x7), none, some (.long x9), none, none, none, none, none, none, none, none, none, none, none, none]) (st := [.ref 60]) (σ := (wi (wi (wi σ 60 59 z4) 60 56 z6) 60 57 z8)) rfl ((fX7_floor_ok _ _ _ q10 h11).deep (Nat.le_of_ble_eq_true rfl)) ?_
                refine go_e (L1 := [none, none, none, none, none, none, none, none, none, none, none, none, none, none, none, none, none, none, none, none, none, none]) rfl rfl ?_
                exact fX7_join_J482_ok _  _  _ hf
              · rw [if_neg h9] at hf
                refine go_if (t := 471) (f := 451) (L1 := [some (.ref 60), none, none, none, none, none, none, some (.long x7), none, some (.long x9), none, none, none, none, none, none, none, none, none, none, none, none]) (st1 := [.ref 60]) (σ1 := (wi (wi (wi σ 60 59 z4) 60 56 z6) 60 57 z8)) rfl (fun q => h9 ((lgc_ne x7 0).mp q)) ?_
                refine go_n 8 (f := (465, [some (.ref 60), none, none, none, none, none, none, some (.long x7), none, some (.long x9), none, none, none, none, none, none, none, none, none, none, none, none], [.long 2, .long (z6.toInt64 + z8.toInt64), .ref 60], (wi (wi (wi σ 60 59 z4) 60 56 z6) 60 57 z8))) rfl ?_
                obtain ⟨q12, h13, hf⟩ := bnd hf
                refine go_c (mid := 12145) (args := [.long (z6.toInt64 + z8.toInt64), .long 2]) (pc := 468) (L := [some (.ref 60), none, none, none, none, none, none, some (.long x7), none, some (.long x9), none, none, none, none, none, none, none, none, none, none, none, none]) (st := [.ref 60]) (σ := (wi (wi (wi σ 60 59 z4) 60 56 z6) 60 57 z8)) rfl ((fX7_floor_ok _ _ _ q12 h13).deep (Nat.le_of_ble_eq_true rfl)) ?_
                refine go_n 1 (f := (482, [some (.ref 60), none, none, none, none, none, none, some (.long x7), none, some (.long x9), none, none, none, none, none, none, none, none, none, none, none, none], [.int q12, .ref 60], (wi (wi (wi σ 60 59 z4) 60 56 z6) 60 57 z8))) rfl ?_
                refine go_e (L1 := [none, none, none, none, none, none, none, none, none, none, none, none, none, none, none, none, none, none, none, none, none, none]) rfl rfl ?_
                exact fX7_join_J482_ok _  _  _ hf
            · by_cases h7 : z4 = 0
              · refine go_it (t := 438) (f := 433) (L1 := [some (.ref 60), none, none, none, some (.int x4), none, some (.int x6), some (.long x7), none, some (.long x9), none, none, none, none, none, none, none, none, none, none, none, none]) (st1 := [.ref 60]) (σ1 := (wi (wi σ 60 59 z4) 60 56 z6)) rfl h7 ?_
                refine go_n 1 (f := (440, [some (.ref 60), none, none, none, some (.int x4), none, some (.int x6), some (.long x7), none, some (.long x9), none, none, none, none, none, none, none, none, none, none, none, none], [.int x4, .ref 60], (wi (wi σ 60 59 z4) 60 56 z6))) rfl ?_
                refine go_e (L1 := [some (.ref 60), none, none, none, none, none, none, some (.long x7), none, some (.long x9), none, none, none, none, none, none, none, none, none, none, none, none]) rfl rfl ?_
                simp only [if_pos h7] at hJ14
                first | exact hJ14 | (simp only [if_pos h7]; exact hJ14)
              · refine go_if (t := 438) (f := 433) (L1 := [some (.ref 60), none, none, none, some (.int x4), none, some (.int x6), some (.long x7), none, some (.long x9), none, none, none, none, none, none, none, none, none, none, none, none]) (st1 := [.ref 60]) (σ1 := (wi (wi σ 60 59 z4) 60 56 z6)) rfl h7 ?_
                refine go_n 2 (f := (440, [some (.ref 60), none, none, none, some (.int x4), none, some (.int x6), some (.long x7), none, some (.long x9), none, none, none, none, none, none, none, none, none, none, none, none], [.int x6, .ref 60], (wi (wi σ 60 59 z4) 60 56 z6))) rfl ?_
                refine go_e (L1 := [some (.ref 60), none, none, none, none, none, none, some (.long x7), none, some (.long x9), none, none, none, none, none, none, none, none, none, none, none, none]) rfl rfl ?_
                simp only [if_neg h7] at hJ14
                first | exact hJ14 | (simp only [if_neg h7]; exact hJ14)
          · by_cases h5 : z4 = 0
            · refine go_it (t := 421) (f := 416) (L1 := [some (.ref 60), none, none, some (.int x3), some (.int x4), some (.int x5), some (.int x6), some (.long x7), none, some (.long x9), none, none, none, none, none, none, none, none, none, none, none, none]) (st1 := [.ref 60]) (σ1 := (wi σ 60 59 z4)) rfl h5 ?_
              refine go_n 1 (f := (422, [some (.ref 60), none, none, some (.int x3), some (.int x4), some (.int x5), some (.int x6), some (.long x7), none, some (.long x9), none, none, none, none, none, none, none, none, none, none, none, none], [.int x3, .ref 60], (wi σ 60 59 z4))) rfl ?_
              refine go_e (L1 := [some (.ref 60), none, none, none, some (.int x4), none, some (.int x6), some (.long x7), none, some (.long x9), none, none, none, none, none, none, none, none, none, none, none, none]) rfl rfl ?_
              simp only [if_pos h5] at hJ15
              first | exact hJ15 | (simp only [if_pos h5]; exact hJ15)
            · refine go_if (t := 421) (f := 416) (L1 := [some (.ref 60), none, none, some (.int x3), some (.int x4), some (.int x5), some (.int x6), some (.long x7), none, some (.long x9), none, none, none, none, none, none, none, none, none, none, none, none]) (st1 := [.ref 60]) (σ1 := (wi σ 60 59 z4)) rfl h5 ?_
              refine go_n 2 (f := (422, [some (.ref 60), none, none, some (.int x3), some (.int x4), some (.int x5), some (.int x6), some (.long x7), none, some (.long x9), none, none, none, none, none, none, none, none, none, none, none, none], [.int x5, .ref 60], (wi σ 60 59 z4))) rfl ?_
              refine go_e (L1 := [some (.ref 60), none, none, none, some (.int x4), none, some (.int x6), some (.long x7), none, some (.long x9), none, none, none, none, none, none, none, none, none, none, none, none]) rfl rfl ?_
              simp only [if_neg h5] at hJ15
              first | exact hJ15 | (simp only [if_neg h5]; exact hJ15)
        · by_cases h3 : x3 ≤ x4
          · refine go_it (t := 404) (f := 400) (L1 := [some (.ref 60), some (.int x1), some (.int x2), some (.int x3), some (.int x4), some (.int x5), some (.int x6), some (.long x7), none, some (.long x9), none, some (.int x11), none, none, none, none, none, none, none, none, none, none]) (st1 := [.ref 60]) (σ1 := σ) rfl h3 ?_
            refine go_n 1 (f := (405, [some (.ref 60), some (.int x1), some (.int x2), some (.int x3), some (.int x4), some (.int x5), some (.int x6), some (.long x7), none, some (.long x9), none, some (.int x11), none, none, none, none, none, none, none, none, none, none], [.int 0, .ref 60], σ)) rfl ?_
            refine go_e (L1 := [some (.ref 60), none, none, some (.int x3), some (.int x4), some (.int x5), some (.int x6), some (.long x7), none, some (.long x9), none, none, none, none, none, none, none, none, none, none, none, none]) rfl rfl ?_
            simp only [if_pos h3] at hJ16
            first | exact hJ16 | (simp only [if_pos h3]; exact hJ16)
          · refine go_if (t := 404) (f := 400) (L1 := [some (.ref 60), some (.int x1), some (.int x2), some (.int x3), some (.int x4), some (.int x5), some (.int x6), some (.long x7), none, some (.long x9), none, some (.int x11), none, none, none, none, none, none, none, none, none, none]) (st1 := [.ref 60]) (σ1 := σ) rfl h3 ?_
            refine go_n 2 (f := (405, [some (.ref 60), some (.int x1), some (.int x2), some (.int x3), some (.int x4), some (.int x5), some (.int x6), some (.long x7), none, some (.long x9), none, some (.int x11), none, none, none, none, none, none, none, none, none, none], [.int 1, .ref 60], σ)) rfl ?_
            refine go_e (L1 := [some (.ref 60), none, none, some (.int x3), some (.int x4), some (.int x5), some (.int x6), some (.long x7), none, some (.long x9), none, none, none, none, none, none, none, none, none, none, none, none]) rfl rfl ?_
            simp only [if_neg h3] at hJ16
            first | exact hJ16 | (simp only [if_neg h3]; exact hJ16)
      · rw [if_neg h2] at hf
        refine go_if (t := 393) (f := 327) (L1 := [some (.ref 60), some (.int x1), some (.int x2), some (.int x3), some (.int x4), some (.int x5), some (.int x6), some (.long x7), none, some (.long x9), none, some (.int x11), none, none, none, none, none, none, none, none, none, none]) (st1 := []) (σ1 := σ) rfl h2 ?_
        refine go_n 3 (f := (330, [some (.ref 60), some (.int x1), some (.int x2), some (.int x3), some (.int x4), some (.int x5), some (.int x6), some (.long x7), none, some (.long x9), none, some (.int x11), none, none, none, none, none, none, none, none, none, none], [.int 1, .int x2, .ref 60], σ)) rfl ?_
        obtain ⟨q17, h18, hf⟩ := bnd hf
        refine go_c (mid := 12044) (args := [.ref 60, .int x2, .int 1]) (pc := 333) (L := [some (.ref 60), some (.int x1), some (.int x2), some (.int x3), some (.int x4), some (.int x5), some (.int x6), some (.long x7), none, some (.long x9), none, some (.int x11), none, none, none, none, none, none, none, none, none, none]) (st := []) (σ := σ) rfl ((fX7_findDate_ok _ _ _ q17 h18).deep (Nat.le_of_ble_eq_true rfl)) ?_
        refine go_n 3 (f := (338, [some (.ref 60), some (.int x1), some (.int x2), some (.int x3), some (.int x4), some (.int x5), some (.int x6), some (.long x7), none, some (.long x9), none, some (.int x11), none, none, none, none, none, none, none, none, none, none], [.int x1, .ref 61], q17)) rfl ?_
        obtain ⟨q19, h20, hf⟩ := bnd hf
        refine go_c (mid := 12046) (args := [.int x1]) (pc := 341) (L := [some (.ref 60), some (.int x1), some (.int x2), some (.int x3), some (.int x4), some (.int x5), some (.int x6), some (.long x7), none, some (.long x9), none, some (.int x11), none, none, none, none, none, none, none, none, none, none]) (st := [.ref 61]) (σ := q17) rfl ((fX7_placeAt_ok _ _ q19 h20).deep (Nat.le_of_ble_eq_true rfl)) ?_
        refine go_n 3 (f := (346, [some (.ref 60), some (.int x1), some (.int x2), some (.int x3), some (.int x4), some (.int x5), some (.int x6), some (.long x7), none, some (.long x9), none, some (.int x11), none, none, none, none, none, none, none, none, none, none], [.int (q19 + (gi q17 60 6)), .ref 61], q17)) rfl ?_
        obtain ⟨h21, hf⟩ := grd hf
        refine go_iald rfl rfl rfl h21 ?_
        refine go_n 4 (f := (354, [some (.ref 60), some (.int x1), some (.int x2), some (.int x3), some (.int x4), some (.int x5), some (.int x6), some (.long x7), none, some (.long x9), none, some (.int (gi q17 61 (q19 + (gi q17 60 6)).toNatClampNeg)), none, none, none, none, none, none, none, none, none, none], [.int x1, .ref 61], q17)) rfl ?_
        obtain ⟨q22, h23, hf⟩ := bnd hf
        refine go_c (mid := 12046) (args := [.int x1]) (pc := 357) (L := [some (.ref 60), some (.int x1), some (.int x2), some (.int x3), some (.int x4), some (.int x5), some (.int x6), some (.long x7), none, some (.long x9), none, some (.int (gi q17 61 (q19 + (gi q17 60 6)).toNatClampNeg)), none, none, none, none, none, none, none, none, none, none]) (st := [.ref 61]) (σ := q17) rfl ((fX7_placeAt_ok _ _ q22 h23).deep (Nat.le_of_ble_eq_true rfl)) ?_
        refine go_n 5 (f := (365, [some (.ref 60), some (.int x1), some (.int x2), some (.int x3), some (.int x4), some (.int x5), some (.int x6), some (.long x7), none, some (.long x9), none, some (.int (gi q17 61 (q19 + (gi q17 60 6)).toNatClampNeg)), none, none, none, none, none, none, none, none, none, none], [.int ((q22 + 12) + (gi q17 60 6)), .ref 61], q17)) rfl ?_
        obtain ⟨h24, hf⟩ := grd hf
        refine go_iald rfl rfl rfl h24 ?_
        refine go_n 6 (f := (377, [some (.ref 60), some (.int x1), some (.int x2), some (.int x3), some (.int x4), some (.int x5), some (.int x6), some (.long x7), none, some (.long x9), none, some (.int (gi q17 61 (q19 + (gi q17 60 6)).toNatClampNeg)), some (.int (gi q17 61 ((q22 + 12) + (gi q17 60 6)).toNatClampNeg)), none, none, none, none, none, none, none, none, none], [], (wi q17 60 56 ((gi q17 61 (q19 + (gi q17 60 6)).toNatClampNeg) - (gi q17 61 ((q22 + 12) + (gi q17 60 6)).toNatClampNeg))))) rfl ?_
        refine go_n 8 (f := (392, [some (.ref 60), some (.int x1), some (.int x2), some (.int x3), some (.int x4), some (.int x5), some (.int x6), some (.long x7), none, some (.long x9), none, some (.int (gi q17 61 (q19 + (gi q17 60 6)).toNatClampNeg)), some (.int (gi q17 61 ((q22 + 12) + (gi q17 60 6)).toNatClampNeg)), none, none, none, none, none, none, none, none, none], [], (wi (wi (wi q17 60 56 ((gi q17 61 (q19 + (gi q17 60 6)).toNatClampNeg) - (gi q17 61 ((q22 + 12) + (gi q17 60 6)).toNatClampNeg))) 60 57 ((gi q17 61 (q19 + (gi q17 60 6)).toNatClampNeg) + (gi q17 61 ((q22 + 12) + (gi q17 60 6)).toNatClampNeg))) 60 58 (gi q17 61 (q19 + (gi q17 60 6)).toNatClampNeg)))) rfl ?_
        cases hf
        exact go_r rfl
    · rw [if_neg h1] at hf
      refine go_if (t := 320) (f := 41) (L1 := [some (.ref 60), some (.int x1), some (.int x2), some (.int x3), some (.int x4), some (.int x5), some (.int x6), some (.long x7), none, some (.long x9), none, some (.int x11), none, none, none, none, none, none, none, none, none, none]) (st1 := []) (σ1 := σ) rfl h1 ?_
      refine go_n 2 (f := (44, [some (.ref 60), some (.int x1), some (.int x2), some (.int x3), some (.int x4), some (.int x5), some (.int x6), some (.long x7), none, some (.long x9), none, some (.int x11), none, none, none, none, none, none, none, none, none, none], [.int x11, .ref 60], σ)) rfl ?_
      obtain ⟨q25, h26, hf⟩ := bnd hf
      refine go_c (mid := 12132) (args := [.ref 60, .int x11]) (pc := 47) (L := [some (.ref 60), some (.int x1), some (.int x2), some (.int x3), some (.int x4), some (.int x5), some (.int x6), some (.long x7), none, some (.long x9), none, some (.int x11), none, none, none, none, none, none, none, none, none, none]) (st := []) (σ := σ) rfl ((fX7_at_ok _ _ q25 h26).deep (Nat.le_of_ble_eq_true rfl)) ?_
      refine go_n 4 (f := (53, [some (.ref 60), some (.int x1), some (.int x2), some (.int x3), some (.int x4), some (.int x5), some (.int x6), some (.long x7), none, some (.long x9), none, some (.int x11), some (.int q25), none, none, none, none, none, none, none, none, none], [.int q25, .int x1, .ref 60], σ)) rfl ?_
      obtain ⟨q27, h28, hf⟩ := bnd hf
      refine go_c (mid := 12143) (args := [.ref 60, .int x1, .int q25]) (pc := 56) (L := [some (.ref 60), some (.int x1), some (.int x2), some (.int x3), some (.int x4), some (.int x5), some (.int x6), some (.long x7), none, some (.long x9), none, some (.int x11), some (.int q25), none, none, none, none, none, none, none, none, none]) (st := []) (σ := σ) rfl ((fX7_likeOf_ok _ _ _ q27 h28).deep (Nat.le_of_ble_eq_true rfl)) ?_
      refine go_n 4 (f := (64, [some (.ref 60), some (.int x1), some (.int x2), some (.int x3), some (.int x4), some (.int x5), some (.int x6), some (.long x7), none, some (.long x9), none, some (.int x11), some (.int q25), some (.int q27), none, none, none, none, none, none, none, none], [.int (gi σ 60 54), .int q25], σ)) rfl ?_
      by_cases h29 : q25 = (gi σ 60 54)
      · rw [if_pos h29] at hf
        refine go_it (t := 110) (f := 67) (L1 := [some (.ref 60), some (.int x1), some (.int x2), some (.int x3), some (.int x4), some (.int x5), some (.int x6), some (.long x7), none, some (.long x9), none, some (.int x11), some (.int q25), some (.int q27), none, none, none, none, none, none, none, none]) (st1 := []) (σ1 := σ) rfl h29 ?_
        refine go_e (L1 := [some (.ref 60), some (.int x1), some (.int x2), some (.int x3), some (.int x4), some (.int x5), some (.int x6), some (.long x7), none, some (.long x9), none, some (.int x11), none, some (.int q27), none, none, none, none, none, none, none, none]) rfl rfl ?_
        exact fX7_join_J110_ok _ _ _ _ _ _ _ _ _ _ _ _ hrec30 _ hf
      · rw [if_neg h29] at hf
        refine go_if (t := 110) (f := 67) (L1 := [some (.ref 60), some (.int x1), some (.int x2), some (.int x3), some (.int x4), some (.int x5), some (.int x6), some (.long x7), none, some (.long x9), none, some (.int x11), some (.int q25), some (.int q27), none, none, none, none, none, none, none, none]) (st1 := []) (σ1 := σ) rfl h29 ?_
        refine go_n 1 (f := (69, [some (.ref 60), some (.int x1), some (.int x2), some (.int x3), some (.int x4), some (.int x5), some (.int x6), some (.long x7), none, some (.long x9), none, some (.int x11), some (.int q25), some (.int q27), none, none, none, none, none, none, none, none], [.int q27], σ)) rfl ?_
        by_cases h56 : q27 ≤ 0
        · rw [if_pos h56] at hf
          refine go_it (t := 110) (f := 72) (L1 := [some (.ref 60), some (.int x1), some (.int x2), some (.int x3), some (.int x4), some (.int x5), some (.int x6), some (.long x7), none, some (.long x9), none, some (.int x11), some (.int q25), some (.int q27), none, none, none, none, none, none, none, none]) (st1 := []) (σ1 := σ) rfl h56 ?_
          refine go_e (L1 := [some (.ref 60), some (.int x1), some (.int x2), some (.int x3), some (.int x4), some (.int x5), some (.int x6), some (.long x7), none, some (.long x9), none, some (.int x11), none, some (.int q27), none, none, none, none, none, none, none, none]) rfl rfl ?_
          exact fX7_join_J110_ok _ _ _ _ _ _ _ _ _ _ _ _ hrec30 _ hf
        · rw [if_neg h56] at hf
          refine go_if (t := 110) (f := 72) (L1 := [some (.ref 60), some (.int x1), some (.int x2), some (.int x3), some (.int x4), some (.int x5), some (.int x6), some (.long x7), none, some (.long x9), none, some (.int x11), some (.int q25), some (.int q27), none, none, none, none, none, none, none, none]) (st1 := []) (σ1 := σ) rfl h56 ?_
          refine go_n 3 (f := (78, [some (.ref 60), some (.int x1), some (.int x2), some (.int x3), some (.int x4), some (.int x5), some (.int x6), some (.long x7), none, some (.long x9), none, some (.int x11), some (.int q25), some (.int q27), none, none, none, none, none, none, none, none], [.int x11, .ref 65], σ)) rfl ?_
          obtain ⟨h57, hf⟩ := grd hf
          refine go_iald rfl rfl rfl h57 ?_
          refine go_n 1 (f := (80, [some (.ref 60), some (.int x1), some (.int x2), some (.int x3), some (.int x4), some (.int x5), some (.int x6), some (.long x7), none, some (.long x9), none, some (.int x11), some (.int q25), some (.int q27), none, none, none, none, none, none, none, none], [.int 1, .int (gi σ 65 x11.toNatClampNeg)], σ)) rfl ?_
          by_cases h58 : (gi σ 65 x11.toNatClampNeg) ≠ 1
          · rw [if_pos h58] at hf
            refine go_it (t := 110) (f := 83) (L1 := [some (.ref 60), some (.int x1), some (.int x2), some (.int x3), some (.int x4), some (.int x5), some (.int x6), some (.long x7), none, some (.long x9), none, some (.int x11), some (.int q25), some (.int q27), none, none, none, none, none, none, none, none]) (st1 := []) (σ1 := σ) rfl h58 ?_
            refine go_e (L1 := [some (.ref 60), some (.int x1), some (.int x2), some (.int x3), some (.int x4), some (.int x5), some (.int x6), some (.long x7), none, some (.long x9), none, some (.int x11), none, some (.int q27), none, none, none, none, none, none, none, none]) rfl rfl ?_
            exact fX7_join_J110_ok _ _ _ _ _ _ _ _ _ _ _ _ hrec30 _ hf
          · rw [if_neg h58] at hf
            refine go_if (t := 110) (f := 83) (L1 := [some (.ref 60), some (.int x1), some (.int x2), some (.int x3), some (.int x4), some (.int x5), some (.int x6), some (.long x7), none, some (.long x9), none, some (.int x11), some (.int q25), some (.int q27), none, none, none, none, none, none, none, none]) (st1 := []) (σ1 := σ) rfl h58 ?_
            refine go_n 3 (f := (89, [some (.ref 60), some (.int x1), some (.int x2), some (.int x3), some (.int x4), some (.int x5), some (.int x6), some (.long x7), none, some (.long x9), none, some (.int x11), some (.int q25), some (.int q27), none, none, none, none, none, none, none, none], [.int x11, .ref 64], σ)) rfl ?_
            obtain ⟨h59, hf⟩ := grd hf
            refine go_iald rfl rfl rfl h59 ?_
            refine go_n 4 (f := (97, [some (.ref 60), some (.int x1), some (.int x2), some (.int x3), some (.int x4), some (.int x5), some (.int x6), some (.long x7), none, some (.long x9), none, some (.int x11), some (.int q25), some (.int q27), none, none, none, none, none, none, none, none], [.int x11, .ref 60, .ref 81, .int (gi σ 64 x11.toNatClampNeg)], σ)) rfl ?_
            obtain ⟨q60, h61, hf⟩ := bnd hf
            refine go_c (mid := 12066) (args := [.ref 60, .int x11]) (pc := 100) (L := [some (.ref 60), some (.int x1), some (.int x2), some (.int x3), some (.int x4), some (.int x5), some (.int x6), some (.long x7), none, some (.long x9), none, some (.int x11), some (.int q25), some (.int q27), none, none, none, none, none, none, none, none]) (st := [.ref 81, .int (gi σ 64 x11.toNatClampNeg)]) (σ := σ) rfl ((fX7_sourceOf_ok _ _ q60 h61).deep (Nat.le_of_ble_eq_true rfl)) ?_
            obtain ⟨h62, hf⟩ := grd hf
            refine go_iald rfl rfl rfl h62 ?_
            refine go_n 2 (f := (103, [some (.ref 60), some (.int x1), some (.int x2), some (.int x3), some (.int x4), some (.int x5), some (.int x6), some (.long x7), none, some (.long x9), none, some (.int x11), some (.int q25), some (.int q27), none, none, none, none, none, none, none, none], [.int x2, .int ((gi σ 64 x11.toNatClampNeg) + (gi σ 81 q60.toNatClampNeg))], σ)) rfl ?_
            refine go_m (f := (111, [some (.ref 60), some (.int x1), some (.int x2), some (.int x3), some (.int x4), some (.int x5), some (.int x6), some (.long x7), none, some (.long x9), none, some (.int x11), none, some (.int q27), none, none, none, none, none, none, none, none], [.int ((if ((gi σ 64 x11.toNatClampNeg) + (gi σ 81 q60.toNatClampNeg)) ≠ x2 then 0 else 1) : Int32)], σ)) ?_ (fun hJ91 => ?_)
            · generalize hz64 : ((if ((gi σ 64 x11.toNatClampNeg) + (gi σ 81 q60.toNatClampNeg)) ≠ x2 then 0 else 1) : Int32) = z64 at hf ⊢
              have oz64 : am_ok 3 z64 = true := hz64 ▸ (okb rfl rfl)
              try dsimp only at hf
              refine go_n 2 (f := (115, [some (.ref 60), some (.int x1), some (.int x2), some (.int x3), some (.int x4), some (.int x5), some (.int x6), some (.long x7), none, some (.long x9), none, some (.int x11), none, some (.int q27), some (.int z64), none, none, none, none, none, none, none], [.int z64], σ)) rfl ?_
              by_cases h65 : z64 = 0
              · rw [if_pos h65] at hf
                refine go_it (t := 314) (f := 118) (L1 := [some (.ref 60), some (.int x1), some (.int x2), some (.int x3), some (.int x4), some (.int x5), some (.int x6), some (.long x7), none, some (.long x9), none, some (.int x11), none, some (.int q27), some (.int z64), none, none, none, none, none, none, none]) (st1 := []) (σ1 := σ) rfl h65 ?_
                refine go_e (L1 := [some (.ref 60), some (.int x1), some (.int x2), some (.int x3), some (.int x4), some (.int x5), some (.int x6), some (.long x7), none, some (.long x9), none, some (.int x11), none, none, none, none, none, none, none, none, none, none]) rfl rfl ?_
                exact fX7_join_J314_ok _ _ _ _ _ _ _ _ _ _ _ hrec30 _ hf
              · rw [if_neg h65] at hf
                refine go_if (t := 314) (f := 118) (L1 := [some (.ref 60), some (.int x1), some (.int x2), some (.int x3), some (.int x4), some (.int x5), some (.int x6), some (.long x7), none, some (.long x9), none, some (.int x11), none, some (.int q27), some (.int z64), none, none, none, none, none, none, none]) (st1 := []) (σ1 := σ) rfl h65 ?_
                refine go_n 2 (f := (121, [some (.ref 60), some (.int x1), some (.int x2), some (.int x3), some (.int x4), some (.int x5), some (.int x6), some (.long x7), none, some (.long x9), none, some (.int x11), none, some (.int q27), some (.int z64), none, none, none, none, none, none, none], [.int x11, .ref 60], σ)) rfl ?_
                obtain ⟨q66, h67, hf⟩ := bnd hf
                refine go_c (mid := 12139) (args := [.ref 60, .int x11]) (pc := 124) (L := [some (.ref 60), some (.int x1), some (.int x2), some (.int x3), some (.int x4), some (.int x5), some (.int x6), some (.long x7), none, some (.long x9), none, some (.int x11), none, some (.int q27), some (.int z64), none, none, none, none, none, none, none]) (st := []) (σ := σ) rfl ((fX7_doesCount_ok _ _ q66 h67).deep (Nat.le_of_ble_eq_true rfl)) ?_
                by_cases h68 : q66.1 = 0
                · rw [if_pos h68] at hf
                  refine go_it (t := 314) (f := 127) (L1 := [some (.ref 60), some (.int x1), some (.int x2), some (.int x3), some (.int x4), some (.int x5), some (.int x6), some (.long x7), none, some (.long x9), none, some (.int x11), none, some (.int q27), some (.int z64), none, none, none, none, none, none, none]) (st1 := []) (σ1 := q66.2) rfl h68 ?_
                  refine go_e (L1 := [some (.ref 60), some (.int x1), some (.int x2), some (.int x3), some (.int x4), some (.int x5), some (.int x6), some (.long x7), none, some (.long x9), none, some (.int x11), none, none, none, none, none, none, none, none, none, none]) rfl rfl ?_
                  exact fX7_join_J314_ok _ _ _ _ _ _ _ _ _ _ _ hrec30 _ hf
                · rw [if_neg h68] at hf
                  refine go_if (t := 314) (f := 127) (L1 := [some (.ref 60), some (.int x1), some (.int x2), some (.int x3), some (.int x4), some (.int x5), some (.int x6), some (.long x7), none, some (.long x9), none, some (.int x11), none, some (.int q27), some (.int z64), none, none, none, none, none, none, none]) (st1 := []) (σ1 := q66.2) rfl h68 ?_
                  refine go_n 3 (f := (131, [some (.ref 60), some (.int x1), some (.int x2), some (.int x3), some (.int x4), some (.int x5), some (.int x6), some (.long x7), none, some (.long x9), none, some (.int x11), none, some (.int q27), some (.int z64), none, none, none, none, none, none, none], [.int x2, .int x11, .ref 60], q66.2)) rfl ?_
                  obtain ⟨q69, h70, hf⟩ := bnd hf
                  refine go_c (mid := 12116) (args := [.ref 60, .int x11, .int x2]) (pc := 134) (L := [some (.ref 60), some (.int x1), some (.int x2), some (.int x3), some (.int x4), some (.int x5), some (.int x6), some (.long x7), none, some (.long x9), none, some (.int x11), none, some (.int q27), some (.int z64), none, none, none, none, none, none, none]) (st := []) (σ := q66.2) rfl ((fX7_findBounds_ok _ _ _ q69 h70).deep (Nat.le_of_ble_eq_true rfl)) ?_
                  by_cases h71 : q69.1 = 0
                  · rw [if_pos h71] at hf
                    refine go_it (t := 314) (f := 137) (L1 := [some (.ref 60), some (.int x1), some (.int x2), some (.int x3), some (.int x4), some (.int x5), some (.int x6), some (.long x7), none, some (.long x9), none, some (.int x11), none, some (.int q27), some (.int z64), none, none, none, none, none, none, none]) (st1 := []) (σ1 := q69.2) rfl h71 ?_
                    refine go_e (L1 := [some (.ref 60), some (.int x1), some (.int x2), some (.int x3), some (.int x4), some (.int x5), some (.int x6), some (.long x7), none, some (.long x9), none, some (.int x11), none, none, none, none, none, none, none, none, none, none]) rfl rfl ?_
                    exact fX7_join_J314_ok _ _ _ _ _ _ _ _ _ _ _ hrec30 _ hf
                  · rw [if_neg h71] at hf
                    refine go_if (t := 314) (f := 137) (L1 := [some (.ref 60), some (.int x1), some (.int x2), some (.int x3), some (.int x4), some (.int x5), some (.int x6), some (.long x7), none, some (.long x9), none, some (.int x11), none, some (.int q27), some (.int z64), none, none, none, none, none, none, none]) (st1 := []) (σ1 := q69.2) rfl h71 ?_
                    refine go_n 9 (f := (153, [some (.ref 60), some (.int x1), some (.int x2), some (.int x3), some (.int x4), some (.int x5), some (.int x6), some (.long x7), none, some (.long x9), none, some (.int x11), none, some (.int q27), some (.int z64), some (.int (100 - q27)), some (.int ((gi q69.2 60 41) - (100 - q27))), none, none, none, none, none], [], q69.2)) rfl ?_
                    refine go_n 10 (f := (171, [some (.ref 60), some (.int x1), some (.int x2), some (.int x3), some (.int x4), some (.int x5), some (.int x6), some (.long x7), none, some (.long x9), none, some (.int x11), none, some (.int q27), some (.int z64), some (.int (100 - q27)), some (.int ((gi q69.2 60 41) - (100 - q27))), some (.int ((gi q69.2 60 42) + (100 - q27))), none, none, none, none], [.int ((gi q69.2 60 41) + (gi q69.2 60 42))], q69.2)) rfl ?_
                    refine go_n 4 (f := (178, [some (.ref 60), some (.int x1), some (.int x2), some (.int x3), some (.int x4), some (.int x5), some (.int x6), some (.long x7), none, some (.long x9), none, some (.int x11), none, some (.int q27), some (.int z64), some (.int (100 - q27)), some (.int ((gi q69.2 60 41) - (100 - q27))), some (.int ((gi q69.2 60 42) + (100 - q27))), some (.long ((gi q69.2 60 41) + (gi q69.2 60 42)).toInt64), none, none, none], [.int (gi q69.2 60 55)], q69.2)) rfl ?_
                    refine go_m (f := (193, [some (.ref 60), some (.int x1), some (.int x2), none, some (.int x4), some (.int x5), some (.int x6), some (.long x7), none, some (.long x9), none, some (.int x11), none, some (.int q27), none, none, some (.int ((gi q69.2 60 41) - (100 - q27))), some (.int ((gi q69.2 60 42) + (100 - q27))), some (.long ((gi q69.2 60 41) + (gi q69.2 60 42)).toInt64), none, none, none], [.int (if (gi q69.2 60 55) = 0 then ((gi q69.2 60 41) - (100 - q27)) else (if ((gi q69.2 60 41) - (100 - q27)) ≤ x3 then x3 else ((gi q69.2 60 41) - (100 - q27))))], q69.2)) ?_ (fun hJ90 => ?_)
                    · generalize hz74 : (if (gi q69.2 60 55) = 0 then ((gi q69.2 60 41) - (100 - q27)) else (if ((gi q69.2 60 41) - (100 - q27)) ≤ x3 then x3 else ((gi q69.2 60 41) - (100 - q27)))) = z74 at hf ⊢
                      try dsimp only at hf
                      refine go_n 3 (f := (198, [some (.ref 60), some (.int x1), some (.int x2), some (.int z74), some (.int x4), some (.int x5), some (.int x6), some (.long x7), none, some (.long x9), none, some (.int x11), none, some (.int q27), none, none, some (.int ((gi q69.2 60 41) - (100 - q27))), some (.int ((gi q69.2 60 42) + (100 - q27))), some (.long ((gi q69.2 60 41) + (gi q69.2 60 42)).toInt64), none, none, none], [.int (gi q69.2 60 55)], q69.2)) rfl ?_
                      refine go_m (f := (215, [some (.ref 60), some (.int x1), some (.int x2), some (.int z74), some (.int x4), none, some (.int x6), some (.long x7), none, some (.long x9), none, some (.int x11), none, some (.int q27), none, none, none, some (.int ((gi q69.2 60 42) + (100 - q27))), some (.long ((gi q69.2 60 41) + (gi q69.2 60 42)).toInt64), none, none, none], [.int (if (gi q69.2 60 55) = 0 then ((gi q69.2 60 41) - (100 - q27)) else (if x5 ≤ ((gi q69.2 60 41) - (100 - q27)) then x5 else ((gi q69.2 60 41) - (100 - q27))))], q69.2)) ?_ (fun hJ89 => ?_)
                      · generalize hz77 : (if (gi q69.2 60 55) = 0 then ((gi q69.2 60 41) - (100 - q27)) else (if x5 ≤ ((gi q69.2 60 41) - (100 - q27)) then x5 else ((gi q69.2 60 41) - (100 - q27)))) = z77 at hf ⊢
                        try dsimp only at hf
                        refine go_n 3 (f := (221, [some (.ref 60), some (.int x1), some (.int x2), some (.int z74), some (.int x4), some (.int z77), some (.int x6), some (.long x7), none, some (.long x9), none, some (.int x11), none, some (.int q27), none, none, none, some (.int ((gi q69.2 60 42) + (100 - q27))), some (.long ((gi q69.2 60 41) + (gi q69.2 60 42)).toInt64), none, none, none], [.int (gi q69.2 60 55)], q69.2)) rfl ?_
                        refine go_m (f := (238, [some (.ref 60), some (.int x1), some (.int x2), some (.int z74), none, some (.int z77), some (.int x6), some (.long x7), none, some (.long x9), none, some (.int x11), none, some (.int q27), none, none, none, some (.int ((gi q69.2 60 42) + (100 - q27))), some (.long ((gi q69.2 60 41) + (gi q69.2 60 42)).toInt64), none, none, none], [.int (if (gi q69.2 60 55) = 0 then ((gi q69.2 60 42) + (100 - q27)) else (if x4 ≤ ((gi q69.2 60 42) + (100 - q27)) then x4 else ((gi q69.2 60 42) + (100 - q27))))], q69.2)) ?_ (fun hJ88 => ?_)
                        · generalize hz80 : (if (gi q69.2 60 55) = 0 then ((gi q69.2 60 42) + (100 - q27)) else (if x4 ≤ ((gi q69.2 60 42) + (100 - q27)) then x4 else ((gi q69.2 60 42) + (100 - q27)))) = z80 at hf ⊢
                          try dsimp only at hf
                          refine go_n 3 (f := (244, [some (.ref 60), some (.int x1), some (.int x2), some (.int z74), some (.int z80), some (.int z77), some (.int x6), some (.long x7), none, some (.long x9), none, some (.int x11), none, some (.int q27), none, none, none, some (.int ((gi q69.2 60 42) + (100 - q27))), some (.long ((gi q69.2 60 41) + (gi q69.2 60 42)).toInt64), none, none, none], [.int (gi q69.2 60 55)], q69.2)) rfl ?_
                          refine go_m (f := (261, [some (.ref 60), some (.int x1), some (.int x2), some (.int z74), some (.int z80), some (.int z77), none, some (.long x7), none, some (.long x9), none, some (.int x11), none, some (.int q27), none, none, none, none, some (.long ((gi q69.2 60 41) + (gi q69.2 60 42)).toInt64), none, none, none], [.int (if (gi q69.2 60 55) = 0 then ((gi q69.2 60 42) + (100 - q27)) else (if ((gi q69.2 60 42) + (100 - q27)) ≤ x6 then x6 else ((gi q69.2 60 42) + (100 - q27))))], q69.2)) ?_ (fun hJ87 => ?_)
                          · generalize hz83 : (if (gi q69.2 60 55) = 0 then ((gi q69.2 60 42) + (100 - q27)) else (if ((gi q69.2 60 42) + (100 - q27)) ≤ x6 then x6 else ((gi q69.2 60 42) + (100 - q27)))) = z83 at hf ⊢
                            try dsimp only at hf
                            refine go_n 6 (f := (270, [some (.ref 60), some (.int x1), some (.int x2), some (.int z74), some (.int z80), some (.int z77), some (.int z83), some (.long x7), none, some (.long x9), none, some (.int x11), none, some (.int q27), none, none, none, none, some (.long ((gi q69.2 60 41) + (gi q69.2 60 42)).toInt64), none, none, none], [.int x2, .int x11, .ref 60, .long q27.toInt64], q69.2)) rfl ?_
                            obtain ⟨q84, h85, hf⟩ := bnd hf
                            refine go_c (mid := 12144) (args := [.ref 60, .int x11, .int x2]) (pc := 273) (L := [some (.ref 60), some (.int x1), some (.int x2), some (.int z74), some (.int z80), some (.int z77), some (.int z83), some (.long x7), none, some (.long x9), none, some (.int x11), none, some (.int q27), none, none, none, none, some (.long ((gi q69.2 60 41) + (gi q69.2 60 42)).toInt64), none, none, none]) (st := [.long q27.toInt64]) (σ := q69.2) rfl ((fX7_weightOf_ok _ _ _ q84 h85).deep (Nat.le_of_ble_eq_true rfl)) ?_
                            refine go_n 6 (f := (283, [some (.ref 60), some (.int x1), some (.int x2), some (.int z74), some (.int z80), some (.int z77), some (.int z83), some (.long (x7 + (q27.toInt64 * q84.1))), none, some (.long x9), none, some (.int x11), none, some (.int q27), none, none, none, none, some (.long ((gi q69.2 60 41) + (gi q69.2 60 42)).toInt64), none, some (.long (q27.toInt64 * q84.1)), none], [], q84.2)) rfl ?_
                            refine go_n 10 (f := (301, [some (.ref 60), some (.int x1), some (.int x2), some (.int z74), some (.int z80), some (.int z77), some (.int z83), some (.long (x7 + (q27.toInt64 * q84.1))), none, some (.long (x9 + ((q27.toInt64 * q84.1) * ((gi q69.2 60 41) + (gi q69.2 60 42)).toInt64))), none, some (.int x11), none, some (.int q27), none, none, none, none, some (.long ((gi q69.2 60 41) + (gi q69.2 60 42)).toInt64), none, some (.long (q27.toInt64 * q84.1)), none], [.int (gi q84.2 60 55), .ref 82], q84.2)) rfl ?_
                            refine go_n 1 (f := (303, [some (.ref 60), some (.int x1), some (.int x2), some (.int z74), some (.int z80), some (.int z77), some (.int z83), some (.long (x7 + (q27.toInt64 * q84.1))), none, some (.long (x9 + ((q27.toInt64 * q84.1) * ((gi q69.2 60 41) + (gi q69.2 60 42)).toInt64))), none, some (.int x11), none, some (.int q27), none, none, none, none, some (.long ((gi q69.2 60 41) + (gi q69.2 60 42)).toInt64), none, some (.long (q27.toInt64 * q84.1)), none], [.int x11, .int (gi q84.2 60 55), .ref 82], q84.2)) rfl ?_
                            obtain ⟨h86, hf⟩ := grd hf
                            refine go_iast rfl rfl rfl h86 ?_
                            refine go_n 6 (f := (314, [some (.ref 60), some (.int x1), some (.int x2), some (.int z74), some (.int z80), some (.int z77), some (.int z83), some (.long (x7 + (q27.toInt64 * q84.1))), none, some (.long (x9 + ((q27.toInt64 * q84.1) * ((gi q69.2 60 41) + (gi q69.2 60 42)).toInt64))), none, some (.int x11), none, some (.int q27), none, none, none, none, some (.long ((gi q69.2 60 41) + (gi q69.2 60 42)).toInt64), none, some (.long (q27.toInt64 * q84.1)), none], [], (wi (wi q84.2 82 (gi q84.2 60 55).toNatClampNeg x11) 60 55 ((gi q84.2 60 55) + 1)))) rfl ?_
                            refine go_e (L1 := [some (.ref 60), some (.int x1), some (.int x2), some (.int z74), some (.int z80), some (.int z77), some (.int z83), some (.long (x7 + (q27.toInt64 * q84.1))), none, some (.long (x9 + ((q27.toInt64 * q84.1) * ((gi q69.2 60 41) + (gi q69.2 60 42)).toInt64))), none, some (.int x11), none, none, none, none, none, none, none, none, none, none]) rfl rfl ?_
                            exact fX7_join_J314_ok _ _ _ _ _ _ _ _ _ _ _ hrec30 _ hf
                          · by_cases h81 : (gi q69.2 60 55) = 0
                            · refine go_it (t := 254) (f := 247) (L1 := [some (.ref 60), some (.int x1), some (.int x2), some (.int z74), some (.int z80), some (.int z77), some (.int x6), some (.long x7), none, some (.long x9), none, some (.int x11), none, some (.int q27), none, none, none, some (.int ((gi q69.2 60 42) + (100 - q27))), some (.long ((gi q69.2 60 41) + (gi q69.2 60 42)).toInt64), none, none, none]) (st1 := []) (σ1 := q69.2) rfl h81 ?_
                              refine go_e (L1 := [some (.ref 60), some (.int x1), some (.int x2), some (.int z74), some (.int z80), some (.int z77), none, some (.long x7), none, some (.long x9), none, some (.int x11), none, some (.int q27), none, none, none, some (.int ((gi q69.2 60 42) + (100 - q27))), some (.long ((gi q69.2 60 41) + (gi q69.2 60 42)).toInt64), none, none, none]) rfl rfl ?_
                              refine go_n 2 (f := (261, [some (.ref 60), some (.int x1), some (.int x2), some (.int z74), some (.int z80), some (.int z77), none, some (.long x7), none, some (.long x9), none, some (.int x11), none, some (.int q27), none, none, none, some (.int ((gi q69.2 60 42) + (100 - q27))), some (.long ((gi q69.2 60 41) + (gi q69.2 60 42)).toInt64), none, none, none], [.int ((gi q69.2 60 42) + (100 - q27))], q69.2)) rfl ?_
                              refine go_e (L1 := [some (.ref 60), some (.int x1), some (.int x2), some (.int z74), some (.int z80), some (.int z77), none, some (.long x7), none, some (.long x9), none, some (.int x11), none, some (.int q27), none, none, none, none, some (.long ((gi q69.2 60 41) + (gi q69.2 60 42)).toInt64), none, none, none]) rfl rfl ?_
                              simp only [if_pos h81] at hJ87
                              first | exact hJ87 | (simp only [if_pos h81]; exact hJ87)
                            · refine go_if (t := 254) (f := 247) (L1 := [some (.ref 60), some (.int x1), some (.int x2), some (.int z74), some (.int z80), some (.int z77), some (.int x6), some (.long x7), none, some (.long x9), none, some (.int x11), none, some (.int q27), none, none, none, some (.int ((gi q69.2 60 42) + (100 - q27))), some (.long ((gi q69.2 60 41) + (gi q69.2 60 42)).toInt64), none, none, none]) (st1 := []) (σ1 := q69.2) rfl h81 ?_
                              refine go_n 2 (f := (251, [some (.ref 60), some (.int x1), some (.int x2), some (.int z74), some (.int z80), some (.int z77), some (.int x6), some (.long x7), none, some (.long x9), none, some (.int x11), none, some (.int q27), none, none, none, some (.int ((gi q69.2 60 42) + (100 - q27))), some (.long ((gi q69.2 60 41) + (gi q69.2 60 42)).toInt64), none, none, none], [.int x6, .int ((gi q69.2 60 42) + (100 - q27))], q69.2)) rfl ?_
                              by_cases h82 : ((gi q69.2 60 42) + (100 - q27)) ≤ x6
                              · refine go_it (t := 259) (f := 254) (L1 := [some (.ref 60), some (.int x1), some (.int x2), some (.int z74), some (.int z80), some (.int z77), some (.int x6), some (.long x7), none, some (.long x9), none, some (.int x11), none, some (.int q27), none, none, none, some (.int ((gi q69.2 60 42) + (100 - q27))), some (.long ((gi q69.2 60 41) + (gi q69.2 60 42)).toInt64), none, none, none]) (st1 := []) (σ1 := q69.2) rfl h82 ?_
                                refine go_n 1 (f := (261, [some (.ref 60), some (.int x1), some (.int x2), some (.int z74), some (.int z80), some (.int z77), some (.int x6), some (.long x7), none, some (.long x9), none, some (.int x11), none, some (.int q27), none, none, none, some (.int ((gi q69.2 60 42) + (100 - q27))), some (.long ((gi q69.2 60 41) + (gi q69.2 60 42)).toInt64), none, none, none], [.int x6], q69.2)) rfl ?_
                                refine go_e (L1 := [some (.ref 60), some (.int x1), some (.int x2), some (.int z74), some (.int z80), some (.int z77), none, some (.long x7), none, some (.long x9), none, some (.int x11), none, some (.int q27), none, none, none, none, some (.long ((gi q69.2 60 41) + (gi q69.2 60 42)).toInt64), none, none, none]) rfl rfl ?_
                                simp only [if_neg h81, if_pos h82] at hJ87
                                first | exact hJ87 | (simp only [if_neg h81, if_pos h82]; exact hJ87)
                              · refine go_if (t := 259) (f := 254) (L1 := [some (.ref 60), some (.int x1), some (.int x2), some (.int z74), some (.int z80), some (.int z77), some (.int x6), some (.long x7), none, some (.long x9), none, some (.int x11), none, some (.int q27), none, none, none, some (.int ((gi q69.2 60 42) + (100 - q27))), some (.long ((gi q69.2 60 41) + (gi q69.2 60 42)).toInt64), none, none, none]) (st1 := []) (σ1 := q69.2) rfl h82 ?_
                                refine go_e (L1 := [some (.ref 60), some (.int x1), some (.int x2), some (.int z74), some (.int z80), some (.int z77), none, some (.long x7), none, some (.long x9), none, some (.int x11), none, some (.int q27), none, none, none, some (.int ((gi q69.2 60 42) + (100 - q27))), some (.long ((gi q69.2 60 41) + (gi q69.2 60 42)).toInt64), none, none, none]) rfl rfl ?_
                                refine go_n 2 (f := (261, [some (.ref 60), some (.int x1), some (.int x2), some (.int z74), some (.int z80), some (.int z77), none, some (.long x7), none, some (.long x9), none, some (.int x11), none, some (.int q27), none, none, none, some (.int ((gi q69.2 60 42) + (100 - q27))), some (.long ((gi q69.2 60 41) + (gi q69.2 60 42)).toInt64), none, none, none], [.int ((gi q69.2 60 42) + (100 - q27))], q69.2)) rfl ?_
                                refine go_e (L1 := [some (.ref 60), some (.int x1), some (.int x2), some (.int z74), some (.int z80), some (.int z77), none, some (.long x7), none, some (.long x9), none, some (.int x11), none, some (.int q27), none, none, none, none, some (.long ((gi q69.2 60 41) + (gi q69.2 60 42)).toInt64), none, none, none]) rfl rfl ?_
                                simp only [if_neg h81, if_neg h82] at hJ87
                                first | exact hJ87 | (simp only [if_neg h81, if_neg h82]; exact hJ87)
                        · by_cases h78 : (gi q69.2 60 55) = 0
                          · refine go_it (t := 231) (f := 224) (L1 := [some (.ref 60), some (.int x1), some (.int x2), some (.int z74), some (.int x4), some (.int z77), some (.int x6), some (.long x7), none, some (.long x9), none, some (.int x11), none, some (.int q27), none, none, none, some (.int ((gi q69.2 60 42) + (100 - q27))), some (.long ((gi q69.2 60 41) + (gi q69.2 60 42)).toInt64), none, none, none]) (st1 := []) (σ1 := q69.2) rfl h78 ?_
                            refine go_e (L1 := [some (.ref 60), some (.int x1), some (.int x2), some (.int z74), none, some (.int z77), some (.int x6), some (.long x7), none, some (.long x9), none, some (.int x11), none, some (.int q27), none, none, none, some (.int ((gi q69.2 60 42) + (100 - q27))), some (.long ((gi q69.2 60 41) + (gi q69.2 60 42)).toInt64), none, none, none]) rfl rfl ?_
                            refine go_n 2 (f := (238, [some (.ref 60), some (.int x1), some (.int x2), some (.int z74), none, some (.int z77), some (.int x6), some (.long x7), none, some (.long x9), none, some (.int x11), none, some (.int q27), none, none, none, some (.int ((gi q69.2 60 42) + (100 - q27))), some (.long ((gi q69.2 60 41) + (gi q69.2 60 42)).toInt64), none, none, none], [.int ((gi q69.2 60 42) + (100 - q27))], q69.2)) rfl ?_
                            refine go_e (L1 := [some (.ref 60), some (.int x1), some (.int x2), some (.int z74), none, some (.int z77), some (.int x6), some (.long x7), none, some (.long x9), none, some (.int x11), none, some (.int q27), none, none, none, some (.int ((gi q69.2 60 42) + (100 - q27))), some (.long ((gi q69.2 60 41) + (gi q69.2 60 42)).toInt64), none, none, none]) rfl rfl ?_
                            simp only [if_pos h78] at hJ88
                            first | exact hJ88 | (simp only [if_pos h78]; exact hJ88)
                          · refine go_if (t := 231) (f := 224) (L1 := [some (.ref 60), some (.int x1), some (.int x2), some (.int z74), some (.int x4), some (.int z77), some (.int x6), some (.long x7), none, some (.long x9), none, some (.int x11), none, some (.int q27), none, none, none, some (.int ((gi q69.2 60 42) + (100 - q27))), some (.long ((gi q69.2 60 41) + (gi q69.2 60 42)).toInt64), none, none, none]) (st1 := []) (σ1 := q69.2) rfl h78 ?_
                            refine go_n 2 (f := (228, [some (.ref 60), some (.int x1), some (.int x2), some (.int z74), some (.int x4), some (.int z77), some (.int x6), some (.long x7), none, some (.long x9), none, some (.int x11), none, some (.int q27), none, none, none, some (.int ((gi q69.2 60 42) + (100 - q27))), some (.long ((gi q69.2 60 41) + (gi q69.2 60 42)).toInt64), none, none, none], [.int x4, .int ((gi q69.2 60 42) + (100 - q27))], q69.2)) rfl ?_
                            by_cases h79 : x4 ≤ ((gi q69.2 60 42) + (100 - q27))
                            · refine go_it (t := 236) (f := 231) (L1 := [some (.ref 60), some (.int x1), some (.int x2), some (.int z74), some (.int x4), some (.int z77), some (.int x6), some (.long x7), none, some (.long x9), none, some (.int x11), none, some (.int q27), none, none, none, some (.int ((gi q69.2 60 42) + (100 - q27))), some (.long ((gi q69.2 60 41) + (gi q69.2 60 42)).toInt64), none, none, none]) (st1 := []) (σ1 := q69.2) rfl h79 ?_
                              refine go_n 1 (f := (238, [some (.ref 60), some (.int x1), some (.int x2), some (.int z74), some (.int x4), some (.int z77), some (.int x6), some (.long x7), none, some (.long x9), none, some (.int x11), none, some (.int q27), none, none, none, some (.int ((gi q69.2 60 42) + (100 - q27))), some (.long ((gi q69.2 60 41) + (gi q69.2 60 42)).toInt64), none, none, none], [.int x4], q69.2)) rfl ?_
                              refine go_e (L1 := [some (.ref 60), some (.int x1), some (.int x2), some (.int z74), none, some (.int z77), some (.int x6), some (.long x7), none, some (.long x9), none, some (.int x11), none, some (.int q27), none, none, none, some (.int ((gi q69.2 60 42) + (100 - q27))), some (.long ((gi q69.2 60 41) + (gi q69.2 60 42)).toInt64), none, none, none]) rfl rfl ?_
                              simp only [if_neg h78, if_pos h79] at hJ88
                              first | exact hJ88 | (simp only [if_neg h78, if_pos h79]; exact hJ88)
                            · refine go_if (t := 236) (f := 231) (L1 := [some (.ref 60), some (.int x1), some (.int x2), some (.int z74), some (.int x4), some (.int z77), some (.int x6), some (.long x7), none, some (.long x9), none, some (.int x11), none, some (.int q27), none, none, none, some (.int ((gi q69.2 60 42) + (100 - q27))), some (.long ((gi q69.2 60 41) + (gi q69.2 60 42)).toInt64), none, none, none]) (st1 := []) (σ1 := q69.2) rfl h79 ?_
                              refine go_e (L1 := [some (.ref 60), some (.int x1), some (.int x2), some (.int z74), none, some (.int z77), some (.int x6), some (.long x7), none, some (.long x9), none, some (.int x11), none, some (.int q27), none, none, none, some (.int ((gi q69.2 60 42) + (100 - q27))), some (.long ((gi q69.2 60 41) + (gi q69.2 60 42)).toInt64), none, none, none]) rfl rfl ?_
                              refine go_n 2 (f := (238, [some (.ref 60), some (.int x1), some (.int x2), some (.int z74), none, some (.int z77), some (.int x6), some (.long x7), none, some (.long x9), none, some (.int x11), none, some (.int q27), none, none, none, some (.int ((gi q69.2 60 42) + (100 - q27))), some (.long ((gi q69.2 60 41) + (gi q69.2 60 42)).toInt64), none, none, none], [.int ((gi q69.2 60 42) + (100 - q27))], q69.2)) rfl ?_
                              refine go_e (L1 := [some (.ref 60), some (.int x1), some (.int x2), some (.int z74), none, some (.int z77), some (.int x6), some (.long x7), none, some (.long x9), none, some (.int x11), none, some (.int q27), none, none, none, some (.int ((gi q69.2 60 42) + (100 - q27))), some (.long ((gi q69.2 60 41) + (gi q69.2 60 42)).toInt64), none, none, none]) rfl rfl ?_
                              simp only [if_neg h78, if_neg h79] at hJ88
                              first | exact hJ88 | (simp only [if_neg h78, if_neg h79]; exact hJ88)
                      · by_cases h75 : (gi q69.2 60 55) = 0
                        · refine go_it (t := 208) (f := 201) (L1 := [some (.ref 60), some (.int x1), some (.int x2), some (.int z74), some (.int x4), some (.int x5), some (.int x6), some (.long x7), none, some (.long x9), none, some (.int x11), none, some (.int q27), none, none, some (.int ((gi q69.2 60 41) - (100 - q27))), some (.int ((gi q69.2 60 42) + (100 - q27))), some (.long ((gi q69.2 60 41) + (gi q69.2 60 42)).toInt64), none, none, none]) (st1 := []) (σ1 := q69.2) rfl h75 ?_
                          refine go_e (L1 := [some (.ref 60), some (.int x1), some (.int x2), some (.int z74), some (.int x4), none, some (.int x6), some (.long x7), none, some (.long x9), none, some (.int x11), none, some (.int q27), none, none, some (.int ((gi q69.2 60 41) - (100 - q27))), some (.int ((gi q69.2 60 42) + (100 - q27))), some (.long ((gi q69.2 60 41) + (gi q69.2 60 42)).toInt64), none, none, none]) rfl rfl ?_
                          refine go_n 2 (f := (215, [some (.ref 60), some (.int x1), some (.int x2), some (.int z74), some (.int x4), none, some (.int x6), some (.long x7), none, some (.long x9), none, some (.int x11), none, some (.int q27), none, none, some (.int ((gi q69.2 60 41) - (100 - q27))), some (.int ((gi q69.2 60 42) + (100 - q27))), some (.long ((gi q69.2 60 41) + (gi q69.2 60 42)).toInt64), none, none, none], [.int ((gi q69.2 60 41) - (100 - q27))], q69.2)) rfl ?_
                          refine go_e (L1 := [some (.ref 60), some (.int x1), some (.int x2), some (.int z74), some (.int x4), none, some (.int x6), some (.long x7), none, some (.long x9), none, some (.int x11), none, some (.int q27), none, none, none, some (.int ((gi q69.2 60 42) + (100 - q27))), some (.long ((gi q69.2 60 41) + (gi q69.2 60 42)).toInt64), none, none, none]) rfl rfl ?_
                          simp only [if_pos h75] at hJ89
                          first | exact hJ89 | (simp only [if_pos h75]; exact hJ89)
                        · refine go_if (t := 208) (f := 201) (L1 := [some (.ref 60), some (.int x1), some (.int x2), some (.int z74), some (.int x4), some (.int x5), some (.int x6), some (.long x7), none, some (.long x9), none, some (.int x11), none, some (.int q27), none, none, some (.int ((gi q69.2 60 41) - (100 - q27))), some (.int ((gi q69.2 60 42) + (100 - q27))), some (.long ((gi q69.2 60 41) + (gi q69.2 60 42)).toInt64), none, none, none]) (st1 := []) (σ1 := q69.2) rfl h75 ?_
                          refine go_n 2 (f := (205, [some (.ref 60), some (.int x1), some (.int x2), some (.int z74), some (.int x4), some (.int x5), some (.int x6), some (.long x7), none, some (.long x9), none, some (.int x11), none, some (.int q27), none, none, some (.int ((gi q69.2 60 41) - (100 - q27))), some (.int ((gi q69.2 60 42) + (100 - q27))), some (.long ((gi q69.2 60 41) + (gi q69.2 60 42)).toInt64), none, none, none], [.int x5, .int ((gi q69.2 60 41) - (100 - q27))], q69.2)) rfl ?_
                          by_cases h76 : x5 ≤ ((gi q69.2 60 41) - (100 - q27))
                          · refine go_it (t := 213) (f := 208) (L1 := [some (.ref 60), some (.int x1), some (.int x2), some (.int z74), some (.int x4), some (.int x5), some (.int x6), some (.long x7), none, some (.long x9), none, some (.int x11), none, some (.int q27), none, none, some (.int ((gi q69.2 60 41) - (100 - q27))), some (.int ((gi q69.2 60 42) + (100 - q27))), some (.long ((gi q69.2 60 41) + (gi q69.2 60 42)).toInt64), none, none, none]) (st1 := []) (σ1 := q69.2) rfl h76 ?_
                            refine go_n 1 (f := (215, [some (.ref 60), some (.int x1), some (.int x2), some (.int z74), some (.int x4), some (.int x5), some (.int x6), some (.long x7), none, some (.long x9), none, some (.int x11), none, some (.int q27), none, none, some (.int ((gi q69.2 60 41) - (100 - q27))), some (.int ((gi q69.2 60 42) + (100 - q27))), some (.long ((gi q69.2 60 41) + (gi q69.2 60 42)).toInt64), none, none, none], [.int x5], q69.2)) rfl ?_
                            refine go_e (L1 := [some (.ref 60), some (.int x1), some (.int x2), some (.int z74), some (.int x4), none, some (.int x6), some (.long x7), none, some (.long x9), none, some (.int x11), none, some (.int q27), none, none, none, some (.int ((gi q69.2 60 42) + (100 - q27))), some (.long ((gi q69.2 60 41) + (gi q69.2 60 42)).toInt64), none, none, none]) rfl rfl ?_
                            simp only [if_neg h75, if_pos h76] at hJ89
                            first | exact hJ89 | (simp only [if_neg h75, if_pos h76]; exact hJ89)
                          · refine go_if (t := 213) (f := 208) (L1 := [some (.ref 60), some (.int x1), some (.int x2), some (.int z74), some (.int x4), some (.int x5), some (.int x6), some (.long x7), none, some (.long x9), none, some (.int x11), none, some (.int q27), none, none, some (.int ((gi q69.2 60 41) - (100 - q27))), some (.int ((gi q69.2 60 42) + (100 - q27))), some (.long ((gi q69.2 60 41) + (gi q69.2 60 42)).toInt64), none, none, none]) (st1 := []) (σ1 := q69.2) rfl h76 ?_
                            refine go_e (L1 := [some (.ref 60), some (.int x1), some (.int x2), some (.int z74), some (.int x4), none, some (.int x6), some (.long x7), none, some (.long x9), none, some (.int x11), none, some (.int q27), none, none, some (.int ((gi q69.2 60 41) - (100 - q27))), some (.int ((gi q69.2 60 42) + (100 - q27))), some (.long ((gi q69.2 60 41) + (gi q69.2 60 42)).toInt64), none, none, none]) rfl rfl ?_
                            refine go_n 2 (f := (215, [some (.ref 60), some (.int x1), some (.int x2), some (.int z74), some (.int x4), none, some (.int x6), some (.long x7), none, some (.long x9), none, some (.int x11), none, some (.int q27), none, none, some (.int ((gi q69.2 60 41) - (100 - q27))), some (.int ((gi q69.2 60 42) + (100 - q27))), some (.long ((gi q69.2 60 41) + (gi q69.2 60 42)).toInt64), none, none, none], [.int ((gi q69.2 60 41) - (100 - q27))], q69.2)) rfl ?_
                            refine go_e (L1 := [some (.ref 60), some (.int x1), some (.int x2), some (.int z74), some (.int x4), none, some (.int x6), some (.long x7), none, some (.long x9), none, some (.int x11), none, some (.int q27), none, none, none, some (.int ((gi q69.2 60 42) + (100 - q27))), some (.long ((gi q69.2 60 41) + (gi q69.2 60 42)).toInt64), none, none, none]) rfl rfl ?_
                            simp only [if_neg h75, if_neg h76] at hJ89
                            first | exact hJ89 | (simp only [if_neg h75, if_neg h76]; exact hJ89)
                    · by_cases h72 : (gi q69.2 60 55) = 0
                      · refine go_it (t := 187) (f := 181) (L1 := [some (.ref 60), some (.int x1), some (.int x2), some (.int x3), some (.int x4), some (.int x5), some (.int x6), some (.long x7), none, some (.long x9), none, some (.int x11), none, some (.int q27), some (.int z64), some (.int (100 - q27)), some (.int ((gi q69.2 60 41) - (100 - q27))), some (.int ((gi q69.2 60 42) + (100 - q27))), some (.long ((gi q69.2 60 41) + (gi q69.2 60 42)).toInt64), none, none, none]) (st1 := []) (σ1 := q69.2) rfl h72 ?_
                        refine go_e (L1 := [some (.ref 60), some (.int x1), some (.int x2), none, some (.int x4), some (.int x5), some (.int x6), some (.long x7), none, some (.long x9), none, some (.int x11), none, some (.int q27), none, none, some (.int ((gi q69.2 60 41) - (100 - q27))), some (.int ((gi q69.2 60 42) + (100 - q27))), some (.long ((gi q69.2 60 41) + (gi q69.2 60 42)).toInt64), none, none, none]) rfl rfl ?_
                        refine go_n 2 (f := (193, [some (.ref 60), some (.int x1), some (.int x2), none, some (.int x4), some (.int x5), some (.int x6), some (.long x7), none, some (.long x9), none, some (.int x11), none, some (.int q27), none, none, some (.int ((gi q69.2 60 41) - (100 - q27))), some (.int ((gi q69.2 60 42) + (100 - q27))), some (.long ((gi q69.2 60 41) + (gi q69.2 60 42)).toInt64), none, none, none], [.int ((gi q69.2 60 41) - (100 - q27))], q69.2)) rfl ?_
                        refine go_e (L1 := [some (.ref 60), some (.int x1), some (.int x2), none, some (.int x4), some (.int x5), some (.int x6), some (.long x7), none, some (.long x9), none, some (.int x11), none, some (.int q27), none, none, some (.int ((gi q69.2 60 41) - (100 - q27))), some (.int ((gi q69.2 60 42) + (100 - q27))), some (.long ((gi q69.2 60 41) + (gi q69.2 60 42)).toInt64), none, none, none]) rfl rfl ?_
                        simp only [if_pos h72] at hJ90
                        first | exact hJ90 | (simp only [if_pos h72]; exact hJ90)
                      · refine go_if (t := 187) (f := 181) (L1 := [some (.ref 60), some (.int x1), some (.int x2), some (.int x3), some (.int x4), some (.int x5), some (.int x6), some (.long x7), none, some (.long x9), none, some (.int x11), none, some (.int q27), some (.int z64), some (.int (100 - q27)), some (.int ((gi q69.2 60 41) - (100 - q27))), some (.int ((gi q69.2 60 42) + (100 - q27))), some (.long ((gi q69.2 60 41) + (gi q69.2 60 42)).toInt64), none, none, none]) (st1 := []) (σ1 := q69.2) rfl h72 ?_
                        refine go_n 2 (f := (184, [some (.ref 60), some (.int x1), some (.int x2), some (.int x3), some (.int x4), some (.int x5), some (.int x6), some (.long x7), none, some (.long x9), none, some (.int x11), none, some (.int q27), some (.int z64), some (.int (100 - q27)), some (.int ((gi q69.2 60 41) - (100 - q27))), some (.int ((gi q69.2 60 42) + (100 - q27))), some (.long ((gi q69.2 60 41) + (gi q69.2 60 42)).toInt64), none, none, none], [.int x3, .int ((gi q69.2 60 41) - (100 - q27))], q69.2)) rfl ?_
                        by_cases h73 : ((gi q69.2 60 41) - (100 - q27)) ≤ x3
                        · refine go_it (t := 192) (f := 187) (L1 := [some (.ref 60), some (.int x1), some (.int x2), some (.int x3), some (.int x4), some (.int x5), some (.int x6), some (.long x7), none, some (.long x9), none, some (.int x11), none, some (.int q27), some (.int z64), some (.int (100 - q27)), some (.int ((gi q69.2 60 41) - (100 - q27))), some (.int ((gi q69.2 60 42) + (100 - q27))), some (.long ((gi q69.2 60 41) + (gi q69.2 60 42)).toInt64), none, none, none]) (st1 := []) (σ1 := q69.2) rfl h73 ?_
                          refine go_n 1 (f := (193, [some (.ref 60), some (.int x1), some (.int x2), some (.int x3), some (.int x4), some (.int x5), some (.int x6), some (.long x7), none, some (.long x9), none, some (.int x11), none, some (.int q27), some (.int z64), some (.int (100 - q27)), some (.int ((gi q69.2 60 41) - (100 - q27))), some (.int ((gi q69.2 60 42) + (100 - q27))), some (.long ((gi q69.2 60 41) + (gi q69.2 60 42)).toInt64), none, none, none], [.int x3], q69.2)) rfl ?_
                          refine go_e (L1 := [some (.ref 60), some (.int x1), some (.int x2), none, some (.int x4), some (.int x5), some (.int x6), some (.long x7), none, some (.long x9), none, some (.int x11), none, some (.int q27), none, none, some (.int ((gi q69.2 60 41) - (100 - q27))), some (.int ((gi q69.2 60 42) + (100 - q27))), some (.long ((gi q69.2 60 41) + (gi q69.2 60 42)).toInt64), none, none, none]) rfl rfl ?_
                          simp only [if_neg h72, if_pos h73] at hJ90
                          first | exact hJ90 | (simp only [if_neg h72, if_pos h73]; exact hJ90)
                        · refine go_if (t := 192) (f := 187) (L1 := [some (.ref 60), some (.int x1), some (.int x2), some (.int x3), some (.int x4), some (.int x5), some (.int x6), some (.long x7), none, some (.long x9), none, some (.int x11), none, some (.int q27), some (.int z64), some (.int (100 - q27)), some (.int ((gi q69.2 60 41) - (100 - q27))), some (.int ((gi q69.2 60 42) + (100 - q27))), some (.long ((gi q69.2 60 41) + (gi q69.2 60 42)).toInt64), none, none, none]) (st1 := []) (σ1 := q69.2) rfl h73 ?_
                          refine go_e (L1 := [some (.ref 60), some (.int x1), some (.int x2), none, some (.int x4), some (.int x5), some (.int x6), some (.long x7), none, some (.long x9), none, some (.int x11), none, some (.int q27), none, none, some (.int ((gi q69.2 60 41) - (100 - q27))), some (.int ((gi q69.2 60 42) + (100 - q27))), some (.long ((gi q69.2 60 41) + (gi q69.2 60 42)).toInt64), none, none, none]) rfl rfl ?_
                          refine go_n 2 (f := (193, [some (.ref 60), some (.int x1), some (.int x2), none, some (.int x4), some (.int x5), some (.int x6), some (.long x7), none, some (.long x9), none, some (.int x11), none, some (.int q27), none, none, some (.int ((gi q69.2 60 41) - (100 - q27))), some (.int ((gi q69.2 60 42) + (100 - q27))), some (.long ((gi q69.2 60 41) + (gi q69.2 60 42)).toInt64), none, none, none], [.int ((gi q69.2 60 41) - (100 - q27))], q69.2)) rfl ?_
                          refine go_e (L1 := [some (.ref 60), some (.int x1), some (.int x2), none, some (.int x4), some (.int x5), some (.int x6), some (.long x7), none, some (.long x9), none, some (.int x11), none, some (.int q27), none, none, some (.int ((gi q69.2 60 41) - (100 - q27))), some (.int ((gi q69.2 60 42) + (100 - q27))), some (.long ((gi q69.2 60 41) + (gi q69.2 60 42)).toInt64), none, none, none]) rfl rfl ?_
                          simp only [if_neg h72, if_neg h73] at hJ90
                          first | exact hJ90 | (simp only [if_neg h72, if_neg h73]; exact hJ90)
            · by_cases h63 : ((gi σ 64 x11.toNatClampNeg) + (gi σ 81 q60.toNatClampNeg)) ≠ x2
              · refine go_it (t := 110) (f := 106) (L1 := [some (.ref 60), some (.int x1), some (.int x2), some (.int x3), some (.int x4), some (.int x5), some (.int x6), some (.long x7), none, some (.long x9), none, some (.int x11), some (.int q25), some (.int q27), none, none, none, none, none, none, none, none]) (st1 := []) (σ1 := σ) rfl h63 ?_
                refine go_e (L1 := [some (.ref 60), some (.int x1), some (.int x2), some (.int x3), some (.int x4), some (.int x5), some (.int x6), some (.long x7), none, some (.long x9), none, some (.int x11), none, some (.int q27), none, none, none, none, none, none, none, none]) rfl rfl ?_
                refine go_n 1 (f := (111, [some (.ref 60), some (.int x1), some (.int x2), some (.int x3), some (.int x4), some (.int x5), some (.int x6), some (.long x7), none, some (.long x9), none, some (.int x11), none, some (.int q27), none, none, none, none, none, none, none, none], [.int 0], σ)) rfl ?_
                refine go_e (L1 := [some (.ref 60), some (.int x1), some (.int x2), some (.int x3), some (.int x4), some (.int x5), some (.int x6), some (.long x7), none, some (.long x9), none, some (.int x11), none, some (.int q27), none, none, none, none, none, none, none, none]) rfl rfl ?_
                simp only [if_pos h63] at hJ91
                first | exact hJ91 | (simp only [if_pos h63]; exact hJ91)
              · refine go_if (t := 110) (f := 106) (L1 := [some (.ref 60), some (.int x1), some (.int x2), some (.int x3), some (.int x4), some (.int x5), some (.int x6), some (.long x7), none, some (.long x9), none, some (.int x11), some (.int q25), some (.int q27), none, none, none, none, none, none, none, none]) (st1 := []) (σ1 := σ) rfl h63 ?_
                refine go_n 2 (f := (111, [some (.ref 60), some (.int x1), some (.int x2), some (.int x3), some (.int x4), some (.int x5), some (.int x6), some (.long x7), none, some (.long x9), none, some (.int x11), some (.int q25), some (.int q27), none, none, none, none, none, none, none, none], [.int 1], σ)) rfl ?_
                refine go_e (L1 := [some (.ref 60), some (.int x1), some (.int x2), some (.int x3), some (.int x4), some (.int x5), some (.int x6), some (.long x7), none, some (.long x9), none, some (.int x11), none, some (.int q27), none, none, none, none, none, none, none, none]) rfl rfl ?_
                simp only [if_neg h63] at hJ91
                first | exact hJ91 | (simp only [if_neg h63]; exact hJ91)
def fX7_join (x1 : Int32) (x2 : Int32) (σ : Sg) : Option Sg :=
  lp (fX7_join_L30 x1 x2 ) N0 (0, 0, 0, 0, 0, 0, 0, (wi (wi σ 60 55 0) 60 59 0))
set_option maxHeartbeats 1500000 in
theorem fX7_join_ok (x1 : Int32) (x2 : Int32) (σ : Sg) (r : Sg) (hf : fX7_join x1 x2 σ = some r) : Cl true 11 12142 [.ref 60, .int x1, .int x2] σ (.inl none, r) := by
  refine ⟨iX7_join, rfl, Nat.le_of_ble_eq_true rfl, Nat.le_of_ble_eq_true rfl, ?_⟩
  show Go true 11 iX7_join (0, [some (.ref 60), some (.int x1), some (.int x2), none, none, none, none, none, none, none, none, none, none, none, none, none, none, none, none, none, none, none], [], σ) (.inl none, r)
  unfold fX7_join at hf
  refine go_n 6 (f := (10, [some (.ref 60), some (.int x1), some (.int x2), none, none, none, none, none, none, none, none, none, none, none, none, none, none, none, none, none, none, none], [], (wi (wi σ 60 55 0) 60 59 0))) rfl ?_
  refine go_n 4 (f := (15, [some (.ref 60), some (.int x1), some (.int x2), some (.int 0), some (.int 0), none, none, none, none, none, none, none, none, none, none, none, none, none, none, none, none, none], [], (wi (wi σ 60 55 0) 60 59 0))) rfl ?_
  refine go_n 4 (f := (21, [some (.ref 60), some (.int x1), some (.int x2), some (.int 0), some (.int 0), some (.int 0), some (.int 0), none, none, none, none, none, none, none, none, none, none, none, none, none, none, none], [], (wi (wi σ 60 55 0) 60 59 0))) rfl ?_
  refine go_n 4 (f := (27, [some (.ref 60), some (.int x1), some (.int x2), some (.int 0), some (.int 0), some (.int 0), some (.int 0), some (.long 0), none, some (.long 0), none, none, none, none, none, none, none, none, none, none, none, none], [], (wi (wi σ 60 55 0) 60 59 0))) rfl ?_
  refine go_n 2 (f := (30, [some (.ref 60), some (.int x1), some (.int x2), some (.int 0), some (.int 0), some (.int 0), some (.int 0), some (.long 0), none, some (.long 0), none, some (.int 0), none, none, none, none, none, none, none, none, none, none], [], (wi (wi σ 60 55 0) 60 59 0))) rfl ?_
  exact fX7_join_L30_ok _ _   N0 _ _ _ _ _ _ _ _ _ hf
