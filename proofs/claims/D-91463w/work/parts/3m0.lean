set_option maxRecDepth 100000
/-! OldWeatherModel.in(JJJ)Z -/
def fX7_in (x0 : Int64) (x2 : Int64) (x4 : Int64) : Option Int32 :=
  ((fun (z3 : Int32) => some z3) ((if x0 < x2 then 0 else (if x4 < x0 then 0 else 1)) : Int32))
set_option maxHeartbeats 1500000 in
theorem fX7_in_ok (x0 : Int64) (x2 : Int64) (x4 : Int64) (σ : Sg) (r : Int32) (hf : fX7_in x0 x2 x4 = some r) : Cl true 0 12034 [.long x0, .long x2, .long x4] σ (.inl (some (.int r)), σ) := by
  refine ⟨iX7_in, rfl, Nat.le_of_ble_eq_true rfl, Nat.le_of_ble_eq_true rfl, ?_⟩
  show Go true 0 iX7_in (0, [some (.long x0), none, some (.long x2), none, some (.long x4), none], [], σ) (.inl (some (.int r)), σ)
  unfold fX7_in at hf
  refine go_n 3 (f := (3, [some (.long x0), none, some (.long x2), none, some (.long x4), none], [.int (lg_cmp x0 x2)], σ)) rfl ?_
  refine go_m (f := (18, [none, none, none, none, none, none], [.int ((if x0 < x2 then 0 else (if x4 < x0 then 0 else 1)) : Int32)], σ)) ?_ (fun hJ4 => ?_)
  · generalize hz3 : ((if x0 < x2 then 0 else (if x4 < x0 then 0 else 1)) : Int32) = z3 at hf ⊢
    have oz3 : am_ok 3 z3 = true := hz3 ▸ (okb rfl (okb rfl rfl))
    try dsimp only at hf
    cases hf
    exact go_ret rfl rfl (Or.inr (Or.inl ⟨rfl, oz3⟩))
  · by_cases h1 : x0 < x2
    · refine go_it (t := 17) (f := 6) (L1 := [some (.long x0), none, some (.long x2), none, some (.long x4), none]) (st1 := []) (σ1 := σ) rfl ((lgc_lt x0 x2).mpr h1) ?_
      refine go_e (L1 := [none, none, none, none, none, none]) rfl rfl ?_
      refine go_n 1 (f := (18, [none, none, none, none, none, none], [.int 0], σ)) rfl ?_
      refine go_e (L1 := [none, none, none, none, none, none]) rfl rfl ?_
      simp only [if_pos h1] at hJ4
      first | exact hJ4 | (simp only [if_pos h1]; exact hJ4)
    · refine go_if (t := 17) (f := 6) (L1 := [some (.long x0), none, some (.long x2), none, some (.long x4), none]) (st1 := []) (σ1 := σ) rfl (fun q => h1 ((lgc_lt x0 x2).mp q)) ?_
      refine go_n 3 (f := (10, [some (.long x0), none, some (.long x2), none, some (.long x4), none], [.int (lg_cmp x0 x4)], σ)) rfl ?_
      by_cases h2 : x4 < x0
      · refine go_it (t := 17) (f := 13) (L1 := [some (.long x0), none, some (.long x2), none, some (.long x4), none]) (st1 := []) (σ1 := σ) rfl ((lgc_gt x0 x4).mpr h2) ?_
        refine go_e (L1 := [none, none, none, none, none, none]) rfl rfl ?_
        refine go_n 1 (f := (18, [none, none, none, none, none, none], [.int 0], σ)) rfl ?_
        refine go_e (L1 := [none, none, none, none, none, none]) rfl rfl ?_
        simp only [if_neg h1, if_pos h2] at hJ4
        first | exact hJ4 | (simp only [if_neg h1, if_pos h2]; exact hJ4)
      · refine go_if (t := 17) (f := 13) (L1 := [some (.long x0), none, some (.long x2), none, some (.long x4), none]) (st1 := []) (σ1 := σ) rfl (fun q => h2 ((lgc_gt x0 x4).mp q)) ?_
        refine go_n 2 (f := (18, [some (.long x0), none, some (.long x2), none, some (.long x4), none], [.int 1], σ)) rfl ?_
        refine go_e (L1 := [none, none, none, none, none, none]) rfl rfl ?_
        simp only [if_neg h1, if_neg h2] at hJ4
        first | exact hJ4 | (simp only [if_neg h1, if_neg h2]; exact hJ4)
/-! OldWeatherModel.told(I)I -/
def fX7_told (x1 : Int32) (σ : Sg) : Option (Int32 × Sg) :=
  ((fun (z2 : Int32) => some (x1, (wi σ 60 1 z2))) (if 0 ≤ x1 then 0 else x1))
set_option maxHeartbeats 1500000 in
theorem fX7_told_ok (x1 : Int32) (σ : Sg) (r : (Int32 × Sg)) (hf : fX7_told x1 σ = some r) : Cl true 0 12035 [.ref 60, .int x1] σ (.inl (some (.int (r).1)), (r).2) := by
  refine ⟨iX7_told, rfl, Nat.le_of_ble_eq_true rfl, Nat.le_of_ble_eq_true rfl, ?_⟩
  show Go true 0 iX7_told (0, [some (.ref 60), some (.int x1)], [], σ) (.inl (some (.int (r).1)), (r).2)
  unfold fX7_told at hf
  refine go_n 2 (f := (2, [some (.ref 60), some (.int x1)], [.int x1, .ref 60], σ)) rfl ?_
  refine go_m (f := (10, [none, some (.int x1)], [.int (if 0 ≤ x1 then 0 else x1), .ref 60], σ)) ?_ (fun hJ3 => ?_)
  · generalize hz2 : (if 0 ≤ x1 then 0 else x1) = z2 at hf ⊢
    try dsimp only at hf
    refine go_n 2 (f := (14, [none, some (.int x1)], [.int x1], (wi σ 60 1 z2))) rfl ?_
    cases hf
    exact go_r rfl
  · by_cases h1 : 0 ≤ x1
    · refine go_it (t := 9) (f := 5) (L1 := [some (.ref 60), some (.int x1)]) (st1 := [.ref 60]) (σ1 := σ) rfl h1 ?_
      refine go_n 1 (f := (10, [some (.ref 60), some (.int x1)], [.int 0, .ref 60], σ)) rfl ?_
      refine go_e (L1 := [none, some (.int x1)]) rfl rfl ?_
      simp only [if_pos h1] at hJ3
      first | exact hJ3 | (simp only [if_pos h1]; exact hJ3)
    · refine go_if (t := 9) (f := 5) (L1 := [some (.ref 60), some (.int x1)]) (st1 := [.ref 60]) (σ1 := σ) rfl h1 ?_
      refine go_n 2 (f := (10, [some (.ref 60), some (.int x1)], [.int x1, .ref 60], σ)) rfl ?_
      refine go_e (L1 := [none, some (.int x1)]) rfl rfl ?_
      simp only [if_neg h1] at hJ3
      first | exact hJ3 | (simp only [if_neg h1]; exact hJ3)
/-! OldWeatherModel.back(I)I -/
def fX7_back_L41 (x1 : Int32)  (rec41 : (Int32 × Sg) → Option (Int32 × Sg)) (s : Int32 × Sg) : Option (Int32 × Sg) :=
  match s with
  | (x2, σ) => if 39698 ≤ x2 then (fX7_told 0 σ).bind fun q7 => some (q7.1, q7.2) else if inb ((39698 * x1) + x2) 119094 then if inb x2 39698 then rec41 ((x2 + 1), (wi σ 61 x2.toNatClampNeg (gi σ 62 ((39698 * x1) + x2).toNatClampNeg))) else none else none
set_option maxHeartbeats 1500000 in
theorem fX7_back_L41_ok (x1 : Int32)   : ∀ (n : Nat) (x2 : Int32) (σ : Sg) (r : (Int32 × Sg)), lp (fX7_back_L41 x1 ) n (x2, σ) = some r → Go true 1 iX7_back (41, [some (.ref 60), some (.int x1), some (.int x2)], [], σ) (.inl (some (.int (r).1)), (r).2) := by
  intro n
  induction n with
  | zero => intro x2 σ r hf; cases hf
  | succ n ih =>
    intro x2 σ r hf
    have hf : fX7_back_L41 x1  (lp (fX7_back_L41 x1 ) n) (x2, σ) = some r := hf
    have hrec41 := ih
    generalize lp (fX7_back_L41 x1 ) n = rec41 at hf hrec41
    unfold fX7_back_L41 at hf
    dsimp only at hf
    refine go_n 2 (f := (44, [some (.ref 60), some (.int x1), some (.int x2)], [.int 39698, .int x2], σ)) rfl ?_
    by_cases h6 : 39698 ≤ x2
    · rw [if_pos h6] at hf
      refine go_it (t := 70) (f := 47) (L1 := [some (.ref 60), some (.int x1), some (.int x2)]) (st1 := []) (σ1 := σ) rfl h6 ?_
      refine go_n 2 (f := (72, [some (.ref 60), some (.int x1), some (.int x2)], [.int 0, .ref 60], σ)) rfl ?_
      obtain ⟨q7, h8, hf⟩ := bnd hf
      refine go_c (mid := 12035) (args := [.ref 60, .int 0]) (pc := 75) (L := [some (.ref 60), some (.int x1), some (.int x2)]) (st := []) (σ := σ) rfl ((fX7_told_ok _ _ q7 h8).deep (Nat.le_of_ble_eq_true rfl)) ?_
      cases hf
      exact go_r rfl
    · rw [if_neg h6] at hf
      refine go_if (t := 70) (f := 47) (L1 := [some (.ref 60), some (.int x1), some (.int x2)]) (st1 := []) (σ1 := σ) rfl h6 ?_
      refine go_n 10 (f := (62, [some (.ref 60), some (.int x1), some (.int x2)], [.int ((39698 * x1) + x2), .ref 62, .int x2, .ref 61], σ)) rfl ?_
      obtain ⟨h9, hf⟩ := grd hf
      refine go_iald rfl rfl rfl h9 ?_
      obtain ⟨h10, hf⟩ := grd hf
      refine go_iast rfl rfl rfl h10 ?_
      refine go_n 2 (f := (41, [some (.ref 60), some (.int x1), some (.int (x2 + 1))], [], (wi σ 61 x2.toNatClampNeg (gi σ 62 ((39698 * x1) + x2).toNatClampNeg)))) rfl ?_
      exact hrec41 _ _ _ hf
def fX7_back (x1 : Int32) (σ : Sg) : Option (Int32 × Sg) :=
  (fX7_in x1.toInt64 0 2).bind fun q1 => if q1 ≠ 0 then if inb x1 3 then if (gi σ 63 x1.toNatClampNeg) ≠ 0 then lp (fX7_back_L41 x1 ) N0 (0, (wi σ 60 0 0)) else (fX7_told (-2) (wi σ 60 0 0)).bind fun q11 => some (q11.1, q11.2) else none else (fX7_told (-1) (wi σ 60 0 0)).bind fun q13 => some (q13.1, q13.2)
set_option maxHeartbeats 1500000 in
theorem fX7_back_ok (x1 : Int32) (σ : Sg) (r : (Int32 × Sg)) (hf : fX7_back x1 σ = some r) : Cl true 1 12036 [.ref 60, .int x1] σ (.inl (some (.int (r).1)), (r).2) := by
  refine ⟨iX7_back, rfl, Nat.le_of_ble_eq_true rfl, Nat.le_of_ble_eq_true rfl, ?_⟩
  show Go true 1 iX7_back (0, [some (.ref 60), some (.int x1), none], [], σ) (.inl (some (.int (r).1)), (r).2)
  unfold fX7_back at hf
  refine go_n 7 (f := (11, [some (.ref 60), some (.int x1), none], [.long 2, .long 0, .long x1.toInt64], (wi σ 60 0 0))) rfl ?_
  obtain ⟨q1, h2, hf⟩ := bnd hf
  refine go_c (mid := 12034) (args := [.long x1.toInt64, .long 0, .long 2]) (pc := 14) (L := [some (.ref 60), some (.int x1), none]) (st := []) (σ := (wi σ 60 0 0)) rfl ((fX7_in_ok _ _ _ _ q1 h2).deep (Nat.le_of_ble_eq_true rfl)) ?_
  by_cases h3 : q1 ≠ 0
  · rw [if_pos h3] at hf
    refine go_it (t := 23) (f := 17) (L1 := [some (.ref 60), some (.int x1), none]) (st1 := []) (σ1 := (wi σ 60 0 0)) rfl h3 ?_
    refine go_n 3 (f := (28, [some (.ref 60), some (.int x1), none], [.int x1, .ref 63], (wi σ 60 0 0))) rfl ?_
    obtain ⟨h4, hf⟩ := grd hf
    refine go_bald rfl rfl (Or.inr rfl) h4 ?_
    by_cases h5 : (gi σ 63 x1.toNatClampNeg) ≠ 0
    · rw [if_pos h5] at hf
      refine go_it (t := 39) (f := 32) (L1 := [some (.ref 60), some (.int x1), none]) (st1 := []) (σ1 := (wi σ 60 0 0)) rfl h5 ?_
      refine go_n 2 (f := (41, [some (.ref 60), some (.int x1), some (.int 0)], [], (wi σ 60 0 0))) rfl ?_
      exact fX7_back_L41_ok _   N0 _ _ _ hf
    · rw [if_neg h5] at hf
      refine go_if (t := 39) (f := 32) (L1 := [some (.ref 60), some (.int x1), none]) (st1 := []) (σ1 := (wi σ 60 0 0)) rfl h5 ?_
      refine go_n 2 (f := (35, [some (.ref 60), some (.int x1), none], [.int (-2), .ref 60], (wi σ 60 0 0))) rfl ?_
      obtain ⟨q11, h12, hf⟩ := bnd hf
      refine go_c (mid := 12035) (args := [.ref 60, .int (-2)]) (pc := 38) (L := [some (.ref 60), some (.int x1), none]) (st := []) (σ := (wi σ 60 0 0)) rfl ((fX7_told_ok _ _ q11 h12).deep (Nat.le_of_ble_eq_true rfl)) ?_
      cases hf
      exact go_r rfl
  · rw [if_neg h3] at hf
    refine go_if (t := 23) (f := 17) (L1 := [some (.ref 60), some (.int x1), none]) (st1 := []) (σ1 := (wi σ 60 0 0)) rfl h3 ?_
    refine go_n 2 (f := (19, [some (.ref 60), some (.int x1), none], [.int (-1), .ref 60], (wi σ 60 0 0))) rfl ?_
    obtain ⟨q13, h14, hf⟩ := bnd hf
    refine go_c (mid := 12035) (args := [.ref 60, .int (-1)]) (pc := 22) (L := [some (.ref 60), some (.int x1), none]) (st := []) (σ := (wi σ 60 0 0)) rfl ((fX7_told_ok _ _ q13 h14).deep (Nat.le_of_ble_eq_true rfl)) ?_
    cases hf
    exact go_r rfl
/-! OldWeatherModel.isLong(II)Z -/
def fX7_isLong (x0 : Int32) (x1 : Int32) : Option Int32 :=
  ((fun (z6 : Int32) => some z6) ((if (x0 - x0 / 4 * 4) ≠ 0 then 0 else (if x1 = 0 then 1 else (if x0 = 1700 then 0 else (if x0 = 1800 then 0 else (if x0 = 1900 then 0 else 1))))) : Int32))
set_option maxHeartbeats 1500000 in
theorem fX7_isLong_ok (x0 : Int32) (x1 : Int32) (σ : Sg) (r : Int32) (hf : fX7_isLong x0 x1 = some r) : Cl true 0 12040 [.int x0, .int x1] σ (.inl (some (.int r)), σ) := by
  refine ⟨iX7_isLong, rfl, Nat.le_of_ble_eq_true rfl, Nat.le_of_ble_eq_true rfl, ?_⟩
  show Go true 0 iX7_isLong (0, [some (.int x0), some (.int x1)], [], σ) (.inl (some (.int r)), σ)
  unfold fX7_isLong at hf
  refine go_n 2 (f := (2, [some (.int x0), some (.int x1)], [.int 4, .int x0], σ)) rfl ?_
  refine go_irem rfl rfl (by decide) ?_
  refine go_m (f := (36, [none, none], [.int ((if (x0 - x0 / 4 * 4) ≠ 0 then 0 else (if x1 = 0 then 1 else (if x0 = 1700 then 0 else (if x0 = 1800 then 0 else (if x0 = 1900 then 0 else 1))))) : Int32)], σ)) ?_ (fun hJ7 => ?_)
  · generalize hz6 : ((if (x0 - x0 / 4 * 4) ≠ 0 then 0 else (if x1 = 0 then 1 else (if x0 = 1700 then 0 else (if x0 = 1800 then 0 else (if x0 = 1900 then 0 else 1))))) : Int32) = z6 at hf ⊢
    have oz6 : am_ok 3 z6 = true := hz6 ▸ (okb rfl (okb rfl (okb rfl (okb rfl (okb rfl rfl)))))
    try dsimp only at hf
    cases hf
    exact go_ret rfl rfl (Or.inr (Or.inl ⟨rfl, oz6⟩))
  · by_cases h1 : (x0 - x0 / 4 * 4) ≠ 0
    · refine go_it (t := 35) (f := 6) (L1 := [some (.int x0), some (.int x1)]) (st1 := []) (σ1 := σ) rfl h1 ?_
      refine go_e (L1 := [none, none]) rfl rfl ?_
      refine go_n 1 (f := (36, [none, none], [.int 0], σ)) rfl ?_
      refine go_e (L1 := [none, none]) rfl rfl ?_
      simp only [if_pos h1] at hJ7
      first | exact hJ7 | (simp only [if_pos h1]; exact hJ7)
    · refine go_if (t := 35) (f := 6) (L1 := [some (.int x0), some (.int x1)]) (st1 := []) (σ1 := σ) rfl h1 ?_
      refine go_n 1 (f := (7, [some (.int x0), some (.int x1)], [.int x1], σ)) rfl ?_
      by_cases h2 : x1 = 0
      · refine go_it (t := 31) (f := 10) (L1 := [some (.int x0), some (.int x1)]) (st1 := []) (σ1 := σ) rfl h2 ?_
        refine go_e (L1 := [none, none]) rfl rfl ?_
        refine go_n 2 (f := (36, [none, none], [.int 1], σ)) rfl ?_
        refine go_e (L1 := [none, none]) rfl rfl ?_
        simp only [if_neg h1, if_pos h2] at hJ7
        first | exact hJ7 | (simp only [if_neg h1, if_pos h2]; exact hJ7)
      · refine go_if (t := 31) (f := 10) (L1 := [some (.int x0), some (.int x1)]) (st1 := []) (σ1 := σ) rfl h2 ?_
        refine go_n 2 (f := (14, [some (.int x0), some (.int x1)], [.int 1700, .int x0], σ)) rfl ?_
        by_cases h3 : x0 = 1700
        · refine go_it (t := 35) (f := 17) (L1 := [some (.int x0), some (.int x1)]) (st1 := []) (σ1 := σ) rfl h3 ?_
          refine go_e (L1 := [none, none]) rfl rfl ?_
          refine go_n 1 (f := (36, [none, none], [.int 0], σ)) rfl ?_
          refine go_e (L1 := [none, none]) rfl rfl ?_
          simp only [if_neg h1, if_neg h2, if_pos h3] at hJ7
          first | exact hJ7 | (simp only [if_neg h1, if_neg h2, if_pos h3]; exact hJ7)
        · refine go_if (t := 35) (f := 17) (L1 := [some (.int x0), some (.int x1)]) (st1 := []) (σ1 := σ) rfl h3 ?_
          refine go_n 2 (f := (21, [some (.int x0), some (.int x1)], [.int 1800, .int x0], σ)) rfl ?_
          by_cases h4 : x0 = 1800
          · refine go_it (t := 35) (f := 24) (L1 := [some (.int x0), some (.int x1)]) (st1 := []) (σ1 := σ) rfl h4 ?_
            refine go_e (L1 := [none, none]) rfl rfl ?_
            refine go_n 1 (f := (36, [none, none], [.int 0], σ)) rfl ?_
            refine go_e (L1 := [none, none]) rfl rfl ?_
            simp only [if_neg h1, if_neg h2, if_neg h3, if_pos h4] at hJ7
            first | exact hJ7 | (simp only [if_neg h1, if_neg h2, if_neg h3, if_pos h4]; exact hJ7)
          · refine go_if (t := 35) (f := 24) (L1 := [some (.int x0), some (.int x1)]) (st1 := []) (σ1 := σ) rfl h4 ?_
            refine go_n 2 (f := (28, [some (.int x0), some (.int x1)], [.int 1900, .int x0], σ)) rfl ?_
            by_cases h5 : x0 = 1900
            · refine go_it (t := 35) (f := 31) (L1 := [some (.int x0), some (.int x1)]) (st1 := []) (σ1 := σ) rfl h5 ?_
              refine go_e (L1 := [none, none]) rfl rfl ?_
              refine go_n 1 (f := (36, [none, none], [.int 0], σ)) rfl ?_
              refine go_e (L1 := [none, none]) rfl rfl ?_
              simp only [if_neg h1, if_neg h2, if_neg h3, if_neg h4, if_pos h5] at hJ7
              first | exact hJ7 | (simp only [if_neg h1, if_neg h2, if_neg h3, if_neg h4, if_pos h5]; exact hJ7)
            · refine go_if (t := 35) (f := 31) (L1 := [some (.int x0), some (.int x1)]) (st1 := []) (σ1 := σ) rfl h5 ?_
              refine go_e (L1 := [none, none]) rfl rfl ?_
              refine go_n 2 (f := (36, [none, none], [.int 1], σ)) rfl ?_
              refine go_e (L1 := [none, none]) rfl rfl ?_
              simp only [if_neg h1, if_neg h2, if_neg h3, if_neg h4, if_neg h5] at hJ7
              first | exact hJ7 | (simp only [if_neg h1, if_neg h2, if_neg h3, if_neg h4, if_neg h5]; exact hJ7)
/-! OldWeatherModel.isDay(I)Z -/
def fX7_isDay (x0 : Int32) : Option Int32 :=
  (fX7_in x0.toInt64 0 109999).bind fun q1 => if am_ok 3 q1 = true then some q1 else none
set_option maxHeartbeats 1500000 in
theorem fX7_isDay_ok (x0 : Int32) (σ : Sg) (r : Int32) (hf : fX7_isDay x0 = some r) : Cl true 1 12042 [.int x0] σ (.inl (some (.int r)), σ) := by
  refine ⟨iX7_isDay, rfl, Nat.le_of_ble_eq_true rfl, Nat.le_of_ble_eq_true rfl, ?_⟩
  show Go true 1 iX7_isDay (0, [some (.int x0)], [], σ) (.inl (some (.int r)), σ)
  unfold fX7_isDay at hf
  refine go_n 4 (f := (6, [some (.int x0)], [.long 109999, .long 0, .long x0.toInt64], σ)) rfl ?_
  obtain ⟨q1, h2, hf⟩ := bnd hf
  refine go_c (mid := 12034) (args := [.long x0.toInt64, .long 0, .long 109999]) (pc := 9) (L := [some (.int x0)]) (st := []) (σ := σ) rfl ((fX7_in_ok _ _ _ _ q1 h2).deep (Nat.le_of_ble_eq_true rfl)) ?_
  obtain ⟨h3, hf⟩ := grd hf
  cases hf
  exact go_ret rfl rfl (Or.inr (Or.inl ⟨rfl, h3⟩))
/-! OldWeatherModel.placeAt(I)I -/
def fX7_placeAt (x0 : Int32) : Option Int32 :=
  some (20 + (37 * x0))
set_option maxHeartbeats 1500000 in
theorem fX7_placeAt_ok (x0 : Int32) (σ : Sg) (r : Int32) (hf : fX7_placeAt x0 = some r) : Cl true 0 12046 [.int x0] σ (.inl (some (.int r)), σ) := by
  refine ⟨iX7_placeAt, rfl, Nat.le_of_ble_eq_true rfl, Nat.le_of_ble_eq_true rfl, ?_⟩
  show Go true 0 iX7_placeAt (0, [some (.int x0)], [], σ) (.inl (some (.int r)), σ)
  unfold fX7_placeAt at hf
  refine go_n 5 (f := (7, [some (.int x0)], [.int (20 + (37 * x0))], σ)) rfl ?_
  cases hf
  exact go_r rfl
/-! OldWeatherModel.isPlace(I)Z -/
def fX7_isPlace (x1 : Int32) (σ : Sg) : Option Int32 :=
  (fX7_in x1.toInt64 0 ((gi σ 61 0).toInt64 - 1)).bind fun q1 => if am_ok 3 q1 = true then some q1 else none
set_option maxHeartbeats 1500000 in
theorem fX7_isPlace_ok (x1 : Int32) (σ : Sg) (r : Int32) (hf : fX7_isPlace x1 σ = some r) : Cl true 1 12048 [.ref 60, .int x1] σ (.inl (some (.int r)), σ) := by
  refine ⟨iX7_isPlace, rfl, Nat.le_of_ble_eq_true rfl, Nat.le_of_ble_eq_true rfl, ?_⟩
  show Go true 1 iX7_isPlace (0, [some (.ref 60), some (.int x1)], [], σ) (.inl (some (.int r)), σ)
  unfold fX7_isPlace at hf
  refine go_n 10 (f := (12, [some (.ref 60), some (.int x1)], [.long ((gi σ 61 0).toInt64 - 1), .long 0, .long x1.toInt64], σ)) rfl ?_
  obtain ⟨q1, h2, hf⟩ := bnd hf
  refine go_c (mid := 12034) (args := [.long x1.toInt64, .long 0, .long ((gi σ 61 0).toInt64 - 1)]) (pc := 15) (L := [some (.ref 60), some (.int x1)]) (st := []) (σ := σ) rfl ((fX7_in_ok _ _ _ _ q1 h2).deep (Nat.le_of_ble_eq_true rfl)) ?_
  obtain ⟨h3, hf⟩ := grd hf
  cases hf
  exact go_ret rfl rfl (Or.inr (Or.inl ⟨rfl, h3⟩))
/-! OldWeatherModel.like(III)I -/
def fX7_like_J39   (σ : Sg) : Option (Int32 × Sg) :=
  (fX7_told (-2) σ).bind fun q7 => some (q7.1, q7.2)
set_option maxHeartbeats 1500000 in
theorem fX7_like_J39_ok   (σ : Sg)  (r : (Int32 × Sg)) (hf : fX7_like_J39   σ = some r) : Go true 2 iX7_like (39, [some (.ref 60), none, none, none], [], σ) (.inl (some (.int (r).1)), (r).2) := by
  unfold fX7_like_J39 at hf
  refine go_n 2 (f := (42, [some (.ref 60), none, none, none], [.int (-2), .ref 60], σ)) rfl ?_
  obtain ⟨q7, h8, hf⟩ := bnd hf
  refine go_c (mid := 12035) (args := [.ref 60, .int (-2)]) (pc := 45) (L := [some (.ref 60), none, none, none]) (st := []) (σ := σ) rfl ((fX7_told_ok _ _ q7 h8).deep (Nat.le_of_ble_eq_true rfl)) ?_
  cases hf
  exact go_r rfl
def fX7_like (x1 : Int32) (x2 : Int32) (x3 : Int32) (σ : Sg) : Option (Int32 × Sg) :=
  (fX7_in x3.toInt64 0 100).bind fun q1 => if q1 ≠ 0 then (fX7_isPlace x1 (wi σ 60 0 0)).bind fun q4 => if q4 = 0 then fX7_like_J39   (wi σ 60 0 0) else (fX7_isPlace x2 (wi σ 60 0 0)).bind fun q9 => if q9 ≠ 0 then if x1 ≠ x2 then (fX7_placeAt x1).bind fun q13 => if inb ((q13 + 25) + x2) 39698 then (fX7_placeAt x2).bind fun q16 => if inb ((q16 + 25) + x1) 39698 then (fX7_told 0 (wi (wi (wi σ 60 0 0) 61 ((q13 + 25) + x2).toNatClampNeg x3) 61 ((q16 + 25) + x1).toNatClampNeg x3)).bind fun q19 => some (q19.1, q19.2) else none else none else (fX7_told (-3) (wi σ 60 0 0)).bind fun q21 => some (q21.1, q21.2) else fX7_like_J39   (wi σ 60 0 0) else (fX7_told (-1) (wi σ 60 0 0)).bind fun q23 => some (q23.1, q23.2)
set_option maxHeartbeats 1500000 in
theorem fX7_like_ok (x1 : Int32) (x2 : Int32) (x3 : Int32) (σ : Sg) (r : (Int32 × Sg)) (hf : fX7_like x1 x2 x3 σ = some r) : Cl true 2 12049 [.ref 60, .int x1, .int x2, .int x3] σ (.inl (some (.int (r).1)), (r).2) := by
  refine ⟨iX7_like, rfl, Nat.le_of_ble_eq_true rfl, Nat.le_of_ble_eq_true rfl, ?_⟩
  show Go true 2 iX7_like (0, [some (.ref 60), some (.int x1), some (.int x2), some (.int x3)], [], σ) (.inl (some (.int (r).1)), (r).2)
  unfold fX7_like at hf
  refine go_n 7 (f := (11, [some (.ref 60), some (.int x1), some (.int x2), some (.int x3)], [.long 100, .long 0, .long x3.toInt64], (wi σ 60 0 0))) rfl ?_
  obtain ⟨q1, h2, hf⟩ := bnd hf
  refine go_c (mid := 12034) (args := [.long x3.toInt64, .long 0, .long 100]) (pc := 14) (L := [some (.ref 60), some (.int x1), some (.int x2), some (.int x3)]) (st := []) (σ := (wi σ 60 0 0)) rfl ((fX7_in_ok _ _ _ _ q1 h2).deep (Nat.le_of_ble_eq_true rfl)) ?_
  by_cases h3 : q1 ≠ 0
  · rw [if_pos h3] at hf
    refine go_it (t := 23) (f := 17) (L1 := [some (.ref 60), some (.int x1), some (.int x2), some (.int x3)]) (st1 := []) (σ1 := (wi σ 60 0 0)) rfl h3 ?_
    refine go_n 2 (f := (25, [some (.ref 60), some (.int x1), some (.int x2), some (.int x3)], [.int x1, .ref 60], (wi σ 60 0 0))) rfl ?_
    obtain ⟨q4, h5, hf⟩ := bnd hf
    refine go_c (mid := 12048) (args := [.ref 60, .int x1]) (pc := 28) (L := [some (.ref 60), some (.int x1), some (.int x2), some (.int x3)]) (st := []) (σ := (wi σ 60 0 0)) rfl ((fX7_isPlace_ok _ _ q4 h5).deep (Nat.le_of_ble_eq_true rfl)) ?_
    by_cases h6 : q4 = 0
    · rw [if_pos h6] at hf
      refine go_it (t := 39) (f := 31) (L1 := [some (.ref 60), some (.int x1), some (.int x2), some (.int x3)]) (st1 := []) (σ1 := (wi σ 60 0 0)) rfl h6 ?_
      refine go_e (L1 := [some (.ref 60), none, none, none]) rfl rfl ?_
      exact fX7_like_J39_ok   _  _ hf
    · rw [if_neg h6] at hf
      refine go_if (t := 39) (f := 31) (L1 := [some (.ref 60), some (.int x1), some (.int x2), some (.int x3)]) (st1 := []) (σ1 := (wi σ 60 0 0)) rfl h6 ?_
      refine go_n 2 (f := (33, [some (.ref 60), some (.int x1), some (.int x2), some (.int x3)], [.int x2, .ref 60], (wi σ 60 0 0))) rfl ?_
      obtain ⟨q9, h10, hf⟩ := bnd hf
      refine go_c (mid := 12048) (args := [.ref 60, .int x2]) (pc := 36) (L := [some (.ref 60), some (.int x1), some (.int x2), some (.int x3)]) (st := []) (σ := (wi σ 60 0 0)) rfl ((fX7_isPlace_ok _ _ q9 h10).deep (Nat.le_of_ble_eq_true rfl)) ?_
      by_cases h11 : q9 ≠ 0
      · rw [if_pos h11] at hf
        refine go_it (t := 46) (f := 39) (L1 := [some (.ref 60), some (.int x1), some (.int x2), some (.int x3)]) (st1 := []) (σ1 := (wi σ 60 0 0)) rfl h11 ?_
        refine go_n 2 (f := (48, [some (.ref 60), some (.int x1), some (.int x2), some (.int x3)], [.int x2, .int x1], (wi σ 60 0 0))) rfl ?_
        by_cases h12 : x1 ≠ x2
        · rw [if_pos h12] at hf
          refine go_it (t := 58) (f := 51) (L1 := [some (.ref 60), some (.int x1), some (.int x2), some (.int x3)]) (st1 := []) (σ1 := (wi σ 60 0 0)) rfl h12 ?_
          refine go_n 3 (f := (63, [some (.ref 60), some (.int x1), some (.int x2), some (.int x3)], [.int x1, .ref 61], (wi σ 60 0 0))) rfl ?_
          obtain ⟨q13, h14, hf⟩ := bnd hf
          refine go_c (mid := 12046) (args := [.int x1]) (pc := 66) (L := [some (.ref 60), some (.int x1), some (.int x2), some (.int x3)]) (st := [.ref 61]) (σ := (wi σ 60 0 0)) rfl ((fX7_placeAt_ok _ _ q13 h14).deep (Nat.le_of_ble_eq_true rfl)) ?_
          refine go_n 5 (f := (72, [some (.ref 60), some (.int x1), some (.int x2), some (.int x3)], [.int x3, .int ((q13 + 25) + x2), .ref 61], (wi σ 60 0 0))) rfl ?_
          obtain ⟨h15, hf⟩ := grd hf
          refine go_iast rfl rfl rfl h15 ?_
          refine go_n 3 (f := (78, [some (.ref 60), some (.int x1), some (.int x2), some (.int x3)], [.int x2, .ref 61], (wi (wi σ 60 0 0) 61 ((q13 + 25) + x2).toNatClampNeg x3))) rfl ?_
          obtain ⟨q16, h17, hf⟩ := bnd hf
          refine go_c (mid := 12046) (args := [.int x2]) (pc := 81) (L := [some (.ref 60), some (.int x1), some (.int x2), some (.int x3)]) (st := [.ref 61]) (σ := (wi (wi σ 60 0 0) 61 ((q13 + 25) + x2).toNatClampNeg x3)) rfl ((fX7_placeAt_ok _ _ q16 h17).deep (Nat.le_of_ble_eq_true rfl)) ?_
          refine go_n 5 (f := (87, [some (.ref 60), some (.int x1), some (.int x2), some (.int x3)], [.int x3, .int ((q16 + 25) + x1), .ref 61], (wi (wi σ 60 0 0) 61 ((q13 + 25) + x2).toNatClampNeg x3))) rfl ?_
          obtain ⟨h18, hf⟩ := grd hf
          refine go_iast rfl rfl rfl h18 ?_
          refine go_n 2 (f := (90, [some (.ref 60), some (.int x1), some (.int x2), some (.int x3)], [.int 0, .ref 60], (wi (wi (wi σ 60 0 0) 61 ((q13 + 25) + x2).toNatClampNeg x3) 61 ((q16 + 25) + x1).toNatClampNeg x3))) rfl ?_
          obtain ⟨q19, h20, hf⟩ := bnd hf
          refine go_c (mid := 12035) (args := [.ref 60, .int 0]) (pc := 93) (L := [some (.ref 60), some (.int x1), some (.int x2), some (.int x3)]) (st := []) (σ := (wi (wi (wi σ 60 0 0) 61 ((q13 + 25) + x2).toNatClampNeg x3) 61 ((q16 + 25) + x1).toNatClampNeg x3)) rfl ((fX7_told_ok _ _ q19 h20).deep (Nat.le_of_ble_eq_true rfl)) ?_
          cases hf
          exact go_r rfl
        · rw [if_neg h12] at hf
          refine go_if (t := 58) (f := 51) (L1 := [some (.ref 60), some (.int x1), some (.int x2), some (.int x3)]) (st1 := []) (σ1 := (wi σ 60 0 0)) rfl h12 ?_
          refine go_n 2 (f := (54, [some (.ref 60), some (.int x1), some (.int x2), some (.int x3)], [.int (-3), .ref 60], (wi σ 60 0 0))) rfl ?_
          obtain ⟨q21, h22, hf⟩ := bnd hf
          refine go_c (mid := 12035) (args := [.ref 60, .int (-3)]) (pc := 57) (L := [some (.ref 60), some (.int x1), some (.int x2), some (.int x3)]) (st := []) (σ := (wi σ 60 0 0)) rfl ((fX7_told_ok _ _ q21 h22).deep (Nat.le_of_ble_eq_true rfl)) ?_
          cases hf
          exact go_r rfl
      · rw [if_neg h11] at hf
        refine go_if (t := 46) (f := 39) (L1 := [some (.ref 60), some (.int x1), some (.int x2), some (.int x3)]) (st1 := []) (σ1 := (wi σ 60 0 0)) rfl h11 ?_
        refine go_e (L1 := [some (.ref 60), none, none, none]) rfl rfl ?_
        exact fX7_like_J39_ok   _  _ hf
  · rw [if_neg h3] at hf
    refine go_if (t := 23) (f := 17) (L1 := [some (.ref 60), some (.int x1), some (.int x2), some (.int x3)]) (st1 := []) (σ1 := (wi σ 60 0 0)) rfl h3 ?_
    refine go_n 2 (f := (19, [some (.ref 60), some (.int x1), some (.int x2), some (.int x3)], [.int (-1), .ref 60], (wi σ 60 0 0))) rfl ?_
    obtain ⟨q23, h24, hf⟩ := bnd hf
    refine go_c (mid := 12035) (args := [.ref 60, .int (-1)]) (pc := 22) (L := [some (.ref 60), some (.int x1), some (.int x2), some (.int x3)]) (st := []) (σ := (wi σ 60 0 0)) rfl ((fX7_told_ok _ _ q23 h24).deep (Nat.le_of_ble_eq_true rfl)) ?_
    cases hf
    exact go_r rfl
/-! OldWeatherModel.addFour(IIIII)V -/
def fX7_addFour (x1 : Int32) (x2 : Int32) (x3 : Int32) (x4 : Int32) (x5 : Int32) (σ : Sg) : Option Sg :=
  if inb x1 39698 then if inb (x1 + 1) 39698 then if inb (x1 + 2) 39698 then if inb (x1 + 3) 39698 then some (wi (wi (wi (wi σ 61 x1.toNatClampNeg x2) 61 (x1 + 1).toNatClampNeg x3) 61 (x1 + 2).toNatClampNeg x4) 61 (x1 + 3).toNatClampNeg x5) else none else none else none else none
set_option maxHeartbeats 1500000 in
theorem fX7_addFour_ok (x1 : Int32) (x2 : Int32) (x3 : Int32) (x4 : Int32) (x5 : Int32) (σ : Sg) (r : Sg) (hf : fX7_addFour x1 x2 x3 x4 x5 σ = some r) : Cl true 0 12051 [.ref 60, .int x1, .int x2, .int x3, .int x4, .int x5] σ (.inl none, r) := by
  refine ⟨iX7_addFour, rfl, Nat.le_of_ble_eq_true rfl, Nat.le_of_ble_eq_true rfl, ?_⟩
  show Go true 0 iX7_addFour (0, [some (.ref 60), some (.int x1), some (.int x2), some (.int x3), some (.int x4), some (.int x5)], [], σ) (.inl none, r)
  unfold fX7_addFour at hf
  refine go_n 4 (f := (6, [some (.ref 60), some (.int x1), some (.int x2), some (.int x3), some (.int x4), some (.int x5)], [.int x2, .int x1, .ref 61], σ)) rfl ?_
  obtain ⟨h1, hf⟩ := grd hf
  refine go_iast rfl rfl rfl h1 ?_
  refine go_n 6 (f := (15, [some (.ref 60), some (.int x1), some (.int x2), some (.int x3), some (.int x4), some (.int x5)], [.int x3, .int (x1 + 1), .ref 61], (wi σ 61 x1.toNatClampNeg x2))) rfl ?_
  obtain ⟨h2, hf⟩ := grd hf
  refine go_iast rfl rfl rfl h2 ?_
  refine go_n 6 (f := (25, [some (.ref 60), some (.int x1), some (.int x2), some (.int x3), some (.int x4), some (.int x5)], [.int x4, .int (x1 + 2), .ref 61], (wi (wi σ 61 x1.toNatClampNeg x2) 61 (x1 + 1).toNatClampNeg x3))) rfl ?_
  obtain ⟨h3, hf⟩ := grd hf
  refine go_iast rfl rfl rfl h3 ?_
  refine go_n 6 (f := (35, [some (.ref 60), some (.int x1), some (.int x2), some (.int x3), some (.int x4), some (.int x5)], [.int x5, .int (x1 + 3), .ref 61], (wi (wi (wi σ 61 x1.toNatClampNeg x2) 61 (x1 + 1).toNatClampNeg x3) 61 (x1 + 2).toNatClampNeg x4))) rfl ?_
  obtain ⟨h4, hf⟩ := grd hf
  refine go_iast rfl rfl rfl h4 ?_
  cases hf
  exact go_r rfl
/-! OldWeatherModel.isSource(I)Z -/
def fX7_isSource (x1 : Int32) (σ : Sg) : Option Int32 :=
  (fX7_in x1.toInt64 0 ((gi σ 61 1).toInt64 - 1)).bind fun q1 => if am_ok 3 q1 = true then some q1 else none
set_option maxHeartbeats 1500000 in
theorem fX7_isSource_ok (x1 : Int32) (σ : Sg) (r : Int32) (hf : fX7_isSource x1 σ = some r) : Cl true 1 12053 [.ref 60, .int x1] σ (.inl (some (.int r)), σ) := by
  refine ⟨iX7_isSource, rfl, Nat.le_of_ble_eq_true rfl, Nat.le_of_ble_eq_true rfl, ?_⟩
  show Go true 1 iX7_isSource (0, [some (.ref 60), some (.int x1)], [], σ) (.inl (some (.int r)), σ)
  unfold fX7_isSource at hf
  refine go_n 10 (f := (12, [some (.ref 60), some (.int x1)], [.long ((gi σ 61 1).toInt64 - 1), .long 0, .long x1.toInt64], σ)) rfl ?_
  obtain ⟨q1, h2, hf⟩ := bnd hf
  refine go_c (mid := 12034) (args := [.long x1.toInt64, .long 0, .long ((gi σ 61 1).toInt64 - 1)]) (pc := 15) (L := [some (.ref 60), some (.int x1)]) (st := []) (σ := σ) rfl ((fX7_in_ok _ _ _ _ q1 h2).deep (Nat.le_of_ble_eq_true rfl)) ?_
  obtain ⟨h3, hf⟩ := grd hf
  cases hf
  exact go_ret rfl rfl (Or.inr (Or.inl ⟨rfl, h3⟩))
/-! OldWeatherModel.stopped(I)I -/
def fX7_stopped (x1 : Int32) (σ : Sg) : Option (Int32 × Sg) :=
  (fX7_isSource x1 (wi σ 60 0 0)).bind fun q1 => if q1 = 0 then some ((-1), (wi σ 60 0 0)) else if inb ((464 + (4 * x1)) + 3) 39698 then some ((gi σ 61 ((464 + (4 * x1)) + 3).toNatClampNeg), (wi σ 60 0 0)) else none
set_option maxHeartbeats 1500000 in
theorem fX7_stopped_ok (x1 : Int32) (σ : Sg) (r : (Int32 × Sg)) (hf : fX7_stopped x1 σ = some r) : Cl true 2 12054 [.ref 60, .int x1] σ (.inl (some (.int (r).1)), (r).2) := by
  refine ⟨iX7_stopped, rfl, Nat.le_of_ble_eq_true rfl, Nat.le_of_ble_eq_true rfl, ?_⟩
  show Go true 2 iX7_stopped (0, [some (.ref 60), some (.int x1)], [], σ) (.inl (some (.int (r).1)), (r).2)
  unfold fX7_stopped at hf
  refine go_n 5 (f := (7, [some (.ref 60), some (.int x1)], [.int x1, .ref 60], (wi σ 60 0 0))) rfl ?_
  obtain ⟨q1, h2, hf⟩ := bnd hf
  refine go_c (mid := 12053) (args := [.ref 60, .int x1]) (pc := 10) (L := [some (.ref 60), some (.int x1)]) (st := []) (σ := (wi σ 60 0 0)) rfl ((fX7_isSource_ok _ _ q1 h2).deep (Nat.le_of_ble_eq_true rfl)) ?_
  by_cases h3 : q1 = 0
  · rw [if_pos h3] at hf
    refine go_it (t := 30) (f := 13) (L1 := [some (.ref 60), some (.int x1)]) (st1 := []) (σ1 := (wi σ 60 0 0)) rfl h3 ?_
    refine go_n 1 (f := (31, [some (.ref 60), some (.int x1)], [.int (-1)], (wi σ 60 0 0))) rfl ?_
    refine go_e (L1 := [none, none]) rfl rfl ?_
    cases hf
    exact go_r rfl
  · rw [if_neg h3] at hf
    refine go_if (t := 30) (f := 13) (L1 := [some (.ref 60), some (.int x1)]) (st1 := []) (σ1 := (wi σ 60 0 0)) rfl h3 ?_
    refine go_n 9 (f := (26, [some (.ref 60), some (.int x1)], [.int ((464 + (4 * x1)) + 3), .ref 61], (wi σ 60 0 0))) rfl ?_
    obtain ⟨h4, hf⟩ := grd hf
    refine go_iald rfl rfl rfl h4 ?_
    refine go_n 1 (f := (31, [some (.ref 60), some (.int x1)], [.int (gi σ 61 ((464 + (4 * x1)) + 3).toNatClampNeg)], (wi σ 60 0 0))) rfl ?_
    refine go_e (L1 := [none, none]) rfl rfl ?_
    cases hf
    exact go_r rfl
/-! OldWeatherModel.isKnown(I)Z -/
def fX7_isKnown (x0 : Int32) : Option Int32 :=
  (fX7_in x0.toInt64 0 9999).bind fun q1 => if am_ok 3 q1 = true then some q1 else none
set_option maxHeartbeats 1500000 in
theorem fX7_isKnown_ok (x0 : Int32) (σ : Sg) (r : Int32) (hf : fX7_isKnown x0 = some r) : Cl true 1 12057 [.int x0] σ (.inl (some (.int r)), σ) := by
  refine ⟨iX7_isKnown, rfl, Nat.le_of_ble_eq_true rfl, Nat.le_of_ble_eq_true rfl, ?_⟩
  show Go true 1 iX7_isKnown (0, [some (.int x0)], [], σ) (.inl (some (.int r)), σ)
  unfold fX7_isKnown at hf
  refine go_n 4 (f := (6, [some (.int x0)], [.long 9999, .long 0, .long x0.toInt64], σ)) rfl ?_
  obtain ⟨q1, h2, hf⟩ := bnd hf
  refine go_c (mid := 12034) (args := [.long x0.toInt64, .long 0, .long 9999]) (pc := 9) (L := [some (.int x0)]) (st := []) (σ := σ) rfl ((fX7_in_ok _ _ _ _ q1 h2).deep (Nat.le_of_ble_eq_true rfl)) ?_
  obtain ⟨h3, hf⟩ := grd hf
  cases hf
  exact go_ret rfl rfl (Or.inr (Or.inl ⟨rfl, h3⟩))
/-! OldWeatherModel.isReading(I)Z -/
def fX7_isReading (x1 : Int32) (σ : Sg) : Option Int32 :=
  (fX7_in x1.toInt64 0 ((gi σ 61 2).toInt64 - 1)).bind fun q1 => if am_ok 3 q1 = true then some q1 else none
set_option maxHeartbeats 1500000 in
theorem fX7_isReading_ok (x1 : Int32) (σ : Sg) (r : Int32) (hf : fX7_isReading x1 σ = some r) : Cl true 1 12058 [.ref 60, .int x1] σ (.inl (some (.int r)), σ) := by
  refine ⟨iX7_isReading, rfl, Nat.le_of_ble_eq_true rfl, Nat.le_of_ble_eq_true rfl, ?_⟩
  show Go true 1 iX7_isReading (0, [some (.ref 60), some (.int x1)], [], σ) (.inl (some (.int r)), σ)
  unfold fX7_isReading at hf
  refine go_n 10 (f := (12, [some (.ref 60), some (.int x1)], [.long ((gi σ 61 2).toInt64 - 1), .long 0, .long x1.toInt64], σ)) rfl ?_
  obtain ⟨q1, h2, hf⟩ := bnd hf
  refine go_c (mid := 12034) (args := [.long x1.toInt64, .long 0, .long ((gi σ 61 2).toInt64 - 1)]) (pc := 15) (L := [some (.ref 60), some (.int x1)]) (st := []) (σ := σ) rfl ((fX7_in_ok _ _ _ _ q1 h2).deep (Nat.le_of_ble_eq_true rfl)) ?_
  obtain ⟨h3, hf⟩ := grd hf
  cases hf
  exact go_ret rfl rfl (Or.inr (Or.inl ⟨rfl, h3⟩))
/-! OldWeatherModel.keep(IIIIIIII)I -/
def fX7_keep (x1 : Int32) (x2 : Int32) (x3 : Int32) (x4 : Int32) (x5 : Int32) (x6 : Int32) (x7 : Int32) (x8 : Int32) (σ : Sg) : Option (Int32 × Sg) :=
  (fX7_addFour (528 + (9 * (gi σ 61 2))) x1 x2 x3 x4 σ).bind fun q1 => (fX7_addFour ((528 + (9 * (gi σ 61 2))) + 4) x5 x6 x7 (-1) q1).bind fun q3 => if inb ((528 + (9 * (gi σ 61 2))) + 8) 39698 then some ((((gi (wi q3 61 ((528 + (9 * (gi σ 61 2))) + 8).toNatClampNeg x8) 61 2) + 1) - 1), (wi (wi q3 61 ((528 + (9 * (gi σ 61 2))) + 8).toNatClampNeg x8) 61 2 ((gi (wi q3 61 ((528 + (9 * (gi σ 61 2))) + 8).toNatClampNeg x8) 61 2) + 1))) else none
set_option maxHeartbeats 1500000 in
theorem fX7_keep_ok (x1 : Int32) (x2 : Int32) (x3 : Int32) (x4 : Int32) (x5 : Int32) (x6 : Int32) (x7 : Int32) (x8 : Int32) (σ : Sg) (r : (Int32 × Sg)) (hf : fX7_keep x1 x2 x3 x4 x5 x6 x7 x8 σ = some r) : Cl true 1 12059 [.ref 60, .int x1, .int x2, .int x3, .int x4, .int x5, .int x6, .int x7, .int x8] σ (.inl (some (.int (r).1)), (r).2) := by
  refine ⟨iX7_keep, rfl, Nat.le_of_ble_eq_true rfl, Nat.le_of_ble_eq_true rfl, ?_⟩
  show Go true 1 iX7_keep (0, [some (.ref 60), some (.int x1), some (.int x2), some (.int x3), some (.int x4), some (.int x5), some (.int x6), some (.int x7), some (.int x8), none], [], σ) (.inl (some (.int (r).1)), (r).2)
  unfold fX7_keep at hf
  refine go_n 10 (f := (16, [some (.ref 60), some (.int x1), some (.int x2), some (.int x3), some (.int x4), some (.int x5), some (.int x6), some (.int x7), some (.int x8), some (.int (528 + (9 * (gi σ 61 2))))], [.ref 60], σ)) rfl ?_
  refine go_n 5 (f := (23, [some (.ref 60), some (.int x1), some (.int x2), some (.int x3), some (.int x4), some (.int x5), some (.int x6), some (.int x7), some (.int x8), some (.int (528 + (9 * (gi σ 61 2))))], [.int x4, .int x3, .int x2, .int x1, .int (528 + (9 * (gi σ 61 2))), .ref 60], σ)) rfl ?_
  obtain ⟨q1, h2, hf⟩ := bnd hf
  refine go_c (mid := 12051) (args := [.ref 60, .int (528 + (9 * (gi σ 61 2))), .int x1, .int x2, .int x3, .int x4]) (pc := 26) (L := [some (.ref 60), some (.int x1), some (.int x2), some (.int x3), some (.int x4), some (.int x5), some (.int x6), some (.int x7), some (.int x8), some (.int (528 + (9 * (gi σ 61 2))))]) (st := []) (σ := σ) rfl ((fX7_addFour_ok _ _ _ _ _ _ q1 h2).deep (Nat.le_of_ble_eq_true rfl)) ?_
  refine go_n 8 (f := (38, [some (.ref 60), some (.int x1), some (.int x2), some (.int x3), some (.int x4), some (.int x5), some (.int x6), some (.int x7), some (.int x8), some (.int (528 + (9 * (gi σ 61 2))))], [.int (-1), .int x7, .int x6, .int x5, .int ((528 + (9 * (gi σ 61 2))) + 4), .ref 60], q1)) rfl ?_
  obtain ⟨q3, h4, hf⟩ := bnd hf
  refine go_c (mid := 12051) (args := [.ref 60, .int ((528 + (9 * (gi σ 61 2))) + 4), .int x5, .int x6, .int x7, .int (-1)]) (pc := 41) (L := [some (.ref 60), some (.int x1), some (.int x2), some (.int x3), some (.int x4), some (.int x5), some (.int x6), some (.int x7), some (.int x8), some (.int (528 + (9 * (gi σ 61 2))))]) (st := []) (σ := q1) rfl ((fX7_addFour_ok _ _ _ _ _ _ q3 h4).deep (Nat.le_of_ble_eq_true rfl)) ?_
  refine go_n 6 (f := (52, [some (.ref 60), some (.int x1), some (.int x2), some (.int x3), some (.int x4), some (.int x5), some (.int x6), some (.int x7), some (.int x8), some (.int (528 + (9 * (gi σ 61 2))))], [.int x8, .int ((528 + (9 * (gi σ 61 2))) + 8), .ref 61], q3)) rfl ?_
  obtain ⟨h5, hf⟩ := grd hf
  refine go_iast rfl rfl rfl h5 ?_
  refine go_n 10 (f := (67, [some (.ref 60), some (.int x1), some (.int x2), some (.int x3), some (.int x4), some (.int x5), some (.int x6), some (.int x7), some (.int x8), some (.int (528 + (9 * (gi σ 61 2))))], [.ref 61], (wi (wi q3 61 ((528 + (9 * (gi σ 61 2))) + 8).toNatClampNeg x8) 61 2 ((gi (wi q3 61 ((528 + (9 * (gi σ 61 2))) + 8).toNatClampNeg x8) 61 2) + 1)))) rfl ?_
  refine go_n 4 (f := (71, [some (.ref 60), some (.int x1), some (.int x2), some (.int x3), some (.int x4), some (.int x5), some (.int x6), some (.int x7), some (.int x8), some (.int (528 + (9 * (gi σ 61 2))))], [.int (((gi (wi q3 61 ((528 + (9 * (gi σ 61 2))) + 8).toNatClampNeg x8) 61 2) + 1) - 1)], (wi (wi q3 61 ((528 + (9 * (gi σ 61 2))) + 8).toNatClampNeg x8) 61 2 ((gi (wi q3 61 ((528 + (9 * (gi σ 61 2))) + 8).toNatClampNeg x8) 61 2) + 1)))) rfl ?_
  cases hf
  exact go_r rfl
/-! OldWeatherModel.get(II)I -/
def fX7_get (x1 : Int32) (x2 : Int32) (σ : Sg) : Option Int32 :=
  if inb ((528 + (9 * x1)) + x2) 39698 then some (gi σ 61 ((528 + (9 * x1)) + x2).toNatClampNeg) else none
set_option maxHeartbeats 1500000 in
theorem fX7_get_ok (x1 : Int32) (x2 : Int32) (σ : Sg) (r : Int32) (hf : fX7_get x1 x2 σ = some r) : Cl true 0 12067 [.ref 60, .int x1, .int x2] σ (.inl (some (.int r)), σ) := by
  refine ⟨iX7_get, rfl, Nat.le_of_ble_eq_true rfl, Nat.le_of_ble_eq_true rfl, ?_⟩
  show Go true 0 iX7_get (0, [some (.ref 60), some (.int x1), some (.int x2)], [], σ) (.inl (some (.int r)), σ)
  unfold fX7_get at hf
  refine go_n 9 (f := (14, [some (.ref 60), some (.int x1), some (.int x2)], [.int ((528 + (9 * x1)) + x2), .ref 61], σ)) rfl ?_
  obtain ⟨h1, hf⟩ := grd hf
  refine go_iald rfl rfl rfl h1 ?_
  cases hf
  exact go_r rfl
/-! OldWeatherModel.as(II)I -/
def fX7_as_J49 (x1 : Int32)  (σ : Sg) : Option (Int32 × Sg) :=
  (fX7_get x1 5 σ).bind fun q10 => some (q10, σ)
set_option maxHeartbeats 1500000 in
theorem fX7_as_J49_ok (x1 : Int32)  (σ : Sg)  (r : (Int32 × Sg)) (hf : fX7_as_J49 x1  σ = some r) : Go true 2 iX7_as (49, [some (.ref 60), some (.int x1), none, none], [], σ) (.inl (some (.int (r).1)), (r).2) := by
  unfold fX7_as_J49 at hf
  refine go_n 3 (f := (52, [some (.ref 60), some (.int x1), none, none], [.int 5, .int x1, .ref 60], σ)) rfl ?_
  obtain ⟨q10, h11, hf⟩ := bnd hf
  refine go_c (mid := 12067) (args := [.ref 60, .int x1, .int 5]) (pc := 55) (L := [some (.ref 60), some (.int x1), none, none]) (st := []) (σ := σ) rfl ((fX7_get_ok _ _ _ q10 h11).deep (Nat.le_of_ble_eq_true rfl)) ?_
  refine go_n 1 (f := (60, [some (.ref 60), some (.int x1), none, none], [.int q10], σ)) rfl ?_
  refine go_e (L1 := [none, none, none, none]) rfl rfl ?_
  cases hf
  exact go_r rfl
def fX7_as (x1 : Int32) (x2 : Int32) (σ : Sg) : Option (Int32 × Sg) :=
  (fX7_isReading x1 (wi σ 60 0 0)).bind fun q1 => if q1 = 0 then some ((-100000), (wi σ 60 0 0)) else (fX7_in x2.toInt64 0 4).bind fun q4 => if q4 ≠ 0 then (fX7_get x1 0 (wi σ 60 0 0)).bind fun q7 => if q7 = x2 then fX7_as_J49 x1  (wi σ 60 0 0) else if x2 ≠ 0 then some ((-100000), (wi σ 60 0 0)) else if q7 ≠ 2 then some ((-100000), (wi σ 60 0 0)) else fX7_as_J49 x1  (wi σ 60 0 0) else some ((-100000), (wi σ 60 0 0))
set_option maxHeartbeats 1500000 in
theorem fX7_as_ok (x1 : Int32) (x2 : Int32) (σ : Sg) (r : (Int32 × Sg)) (hf : fX7_as x1 x2 σ = some r) : Cl true 2 12068 [.ref 60, .int x1, .int x2] σ (.inl (some (.int (r).1)), (r).2) := by
  refine ⟨iX7_as, rfl, Nat.le_of_ble_eq_true rfl, Nat.le_of_ble_eq_true rfl, ?_⟩
  show Go true 2 iX7_as (0, [some (.ref 60), some (.int x1), some (.int x2), none], [], σ) (.inl (some (.int (r).1)), (r).2)
  unfold fX7_as at hf
  refine go_n 5 (f := (7, [some (.ref 60), some (.int x1), some (.int x2), none], [.int x1, .ref 60], (wi σ 60 0 0))) rfl ?_
  obtain ⟨q1, h2, hf⟩ := bnd hf
  refine go_c (mid := 12058) (args := [.ref 60, .int x1]) (pc := 10) (L := [some (.ref 60), some (.int x1), some (.int x2), none]) (st := []) (σ := (wi σ 60 0 0)) rfl ((fX7_isReading_ok _ _ q1 h2).deep (Nat.le_of_ble_eq_true rfl)) ?_
  by_cases h3 : q1 = 0
  · rw [if_pos h3] at hf
    refine go_it (t := 25) (f := 13) (L1 := [some (.ref 60), some (.int x1), some (.int x2), none]) (st1 := []) (σ1 := (wi σ 60 0 0)) rfl h3 ?_
    refine go_e (L1 := [none, none, none, none]) rfl rfl ?_
    refine go_n 1 (f := (27, [none, none, none, none], [.int (-100000)], (wi σ 60 0 0))) rfl ?_
    cases hf
    exact go_r rfl
  · rw [if_neg h3] at hf
    refine go_if (t := 25) (f := 13) (L1 := [some (.ref 60), some (.int x1), some (.int x2), none]) (st1 := []) (σ1 := (wi σ 60 0 0)) rfl h3 ?_
    refine go_n 4 (f := (19, [some (.ref 60), some (.int x1), some (.int x2), none], [.long 4, .long 0, .long x2.toInt64], (wi σ 60 0 0))) rfl ?_
    obtain ⟨q4, h5, hf⟩ := bnd hf
    refine go_c (mid := 12034) (args := [.long x2.toInt64, .long 0, .long 4]) (pc := 22) (L := [some (.ref 60), some (.int x1), some (.int x2), none]) (st := []) (σ := (wi σ 60 0 0)) rfl ((fX7_in_ok _ _ _ _ q4 h5).deep (Nat.le_of_ble_eq_true rfl)) ?_
    by_cases h6 : q4 ≠ 0
    · rw [if_pos h6] at hf
      refine go_it (t := 28) (f := 25) (L1 := [some (.ref 60), some (.int x1), some (.int x2), none]) (st1 := []) (σ1 := (wi σ 60 0 0)) rfl h6 ?_
      refine go_n 3 (f := (31, [some (.ref 60), some (.int x1), some (.int x2), none], [.int 0, .int x1, .ref 60], (wi σ 60 0 0))) rfl ?_
      obtain ⟨q7, h8, hf⟩ := bnd hf
      refine go_c (mid := 12067) (args := [.ref 60, .int x1, .int 0]) (pc := 34) (L := [some (.ref 60), some (.int x1), some (.int x2), none]) (st := []) (σ := (wi σ 60 0 0)) rfl ((fX7_get_ok _ _ _ q7 h8).deep (Nat.le_of_ble_eq_true rfl)) ?_
      refine go_n 3 (f := (37, [some (.ref 60), some (.int x1), some (.int x2), some (.int q7)], [.int x2, .int q7], (wi σ 60 0 0))) rfl ?_
      by_cases h9 : q7 = x2
      · rw [if_pos h9] at hf
        refine go_it (t := 49) (f := 40) (L1 := [some (.ref 60), some (.int x1), some (.int x2), some (.int q7)]) (st1 := []) (σ1 := (wi σ 60 0 0)) rfl h9 ?_
        refine go_e (L1 := [some (.ref 60), some (.int x1), none, none]) rfl rfl ?_
        exact fX7_as_J49_ok _  _  _ hf
      · rw [if_neg h9] at hf
        refine go_if (t := 49) (f := 40) (L1 := [some (.ref 60), some (.int x1), some (.int x2), some (.int q7)]) (st1 := []) (σ1 := (wi σ 60 0 0)) rfl h9 ?_
        refine go_n 1 (f := (41, [some (.ref 60), some (.int x1), some (.int x2), some (.int q7)], [.int x2], (wi σ 60 0 0))) rfl ?_
        by_cases h12 : x2 ≠ 0
        · rw [if_pos h12] at hf
          refine go_it (t := 58) (f := 44) (L1 := [some (.ref 60), some (.int x1), some (.int x2), some (.int q7)]) (st1 := []) (σ1 := (wi σ 60 0 0)) rfl h12 ?_
          refine go_e (L1 := [none, none, none, none]) rfl rfl ?_
          refine go_n 1 (f := (60, [none, none, none, none], [.int (-100000)], (wi σ 60 0 0))) rfl ?_
          cases hf
          exact go_r rfl
        · rw [if_neg h12] at hf
          refine go_if (t := 58) (f := 44) (L1 := [some (.ref 60), some (.int x1), some (.int x2), some (.int q7)]) (st1 := []) (σ1 := (wi σ 60 0 0)) rfl h12 ?_
          refine go_n 2 (f := (46, [some (.ref 60), some (.int x1), some (.int x2), some (.int q7)], [.int 2, .int q7], (wi σ 60 0 0))) rfl ?_
          by_cases h13 : q7 ≠ 2
          · rw [if_pos h13] at hf
            refine go_it (t := 58) (f := 49) (L1 := [some (.ref 60), some (.int x1), some (.int x2), some (.int q7)]) (st1 := []) (σ1 := (wi σ 60 0 0)) rfl h13 ?_
            refine go_e (L1 := [none, none, none, none]) rfl rfl ?_
            refine go_n 1 (f := (60, [none, none, none, none], [.int (-100000)], (wi σ 60 0 0))) rfl ?_
            cases hf
            exact go_r rfl
          · rw [if_neg h13] at hf
            refine go_if (t := 58) (f := 49) (L1 := [some (.ref 60), some (.int x1), some (.int x2), some (.int q7)]) (st1 := []) (σ1 := (wi σ 60 0 0)) rfl h13 ?_
            refine go_e (L1 := [some (.ref 60), some (.int x1), none, none]) rfl rfl ?_
            exact fX7_as_J49_ok _  _  _ hf
    · rw [if_neg h6] at hf
      refine go_if (t := 28) (f := 25) (L1 := [some (.ref 60), some (.int x1), some (.int x2), none]) (st1 := []) (σ1 := (wi σ 60 0 0)) rfl h6 ?_
      refine go_e (L1 := [none, none, none, none]) rfl rfl ?_
      refine go_n 1 (f := (27, [none, none, none, none], [.int (-100000)], (wi σ 60 0 0))) rfl ?_
      cases hf
      exact go_r rfl
/-! OldWeatherModel.strike(II)I -/
def fX7_strike (x1 : Int32) (x2 : Int32) (σ : Sg) : Option (Int32 × Sg) :=
  (fX7_isKnown x2).bind fun q1 => if q1 ≠ 0 then (fX7_isReading x1 (wi σ 60 0 0)).bind fun q4 => if q4 ≠ 0 then (fX7_get x1 7 (wi σ 60 0 0)).bind fun q7 => if q7 = (-1) then if inb ((528 + (9 * x1)) + 7) 39698 then (fX7_told 0 (wi (wi σ 60 0 0) 61 ((528 + (9 * x1)) + 7).toNatClampNeg x2)).bind fun q11 => some (q11.1, q11.2) else none else (fX7_told (-4) (wi σ 60 0 0)).bind fun q13 => some (q13.1, q13.2) else (fX7_told (-2) (wi σ 60 0 0)).bind fun q15 => some (q15.1, q15.2) else (fX7_told (-1) (wi σ 60 0 0)).bind fun q17 => some (q17.1, q17.2)
set_option maxHeartbeats 1500000 in
theorem fX7_strike_ok (x1 : Int32) (x2 : Int32) (σ : Sg) (r : (Int32 × Sg)) (hf : fX7_strike x1 x2 σ = some r) : Cl true 2 12069 [.ref 60, .int x1, .int x2] σ (.inl (some (.int (r).1)), (r).2) := by
  refine ⟨iX7_strike, rfl, Nat.le_of_ble_eq_true rfl, Nat.le_of_ble_eq_true rfl, ?_⟩
  show Go true 2 iX7_strike (0, [some (.ref 60), some (.int x1), some (.int x2)], [], σ) (.inl (some (.int (r).1)), (r).2)
  unfold fX7_strike at hf
  refine go_n 4 (f := (6, [some (.ref 60), some (.int x1), some (.int x2)], [.int x2], (wi σ 60 0 0))) rfl ?_
  obtain ⟨q1, h2, hf⟩ := bnd hf
  refine go_c (mid := 12057) (args := [.int x2]) (pc := 9) (L := [some (.ref 60), some (.int x1), some (.int x2)]) (st := []) (σ := (wi σ 60 0 0)) rfl ((fX7_isKnown_ok _ _ q1 h2).deep (Nat.le_of_ble_eq_true rfl)) ?_
  by_cases h3 : q1 ≠ 0
  · rw [if_pos h3] at hf
    refine go_it (t := 18) (f := 12) (L1 := [some (.ref 60), some (.int x1), some (.int x2)]) (st1 := []) (σ1 := (wi σ 60 0 0)) rfl h3 ?_
    refine go_n 2 (f := (20, [some (.ref 60), some (.int x1), some (.int x2)], [.int x1, .ref 60], (wi σ 60 0 0))) rfl ?_
    obtain ⟨q4, h5, hf⟩ := bnd hf
    refine go_c (mid := 12058) (args := [.ref 60, .int x1]) (pc := 23) (L := [some (.ref 60), some (.int x1), some (.int x2)]) (st := []) (σ := (wi σ 60 0 0)) rfl ((fX7_isReading_ok _ _ q4 h5).deep (Nat.le_of_ble_eq_true rfl)) ?_
    by_cases h6 : q4 ≠ 0
    · rw [if_pos h6] at hf
      refine go_it (t := 33) (f := 26) (L1 := [some (.ref 60), some (.int x1), some (.int x2)]) (st1 := []) (σ1 := (wi σ 60 0 0)) rfl h6 ?_
      refine go_n 3 (f := (37, [some (.ref 60), some (.int x1), some (.int x2)], [.int 7, .int x1, .ref 60], (wi σ 60 0 0))) rfl ?_
      obtain ⟨q7, h8, hf⟩ := bnd hf
      refine go_c (mid := 12067) (args := [.ref 60, .int x1, .int 7]) (pc := 40) (L := [some (.ref 60), some (.int x1), some (.int x2)]) (st := []) (σ := (wi σ 60 0 0)) rfl ((fX7_get_ok _ _ _ q7 h8).deep (Nat.le_of_ble_eq_true rfl)) ?_
      refine go_n 1 (f := (41, [some (.ref 60), some (.int x1), some (.int x2)], [.int (-1), .int q7], (wi σ 60 0 0))) rfl ?_
      by_cases h9 : q7 = (-1)
      · rw [if_pos h9] at hf
        refine go_it (t := 51) (f := 44) (L1 := [some (.ref 60), some (.int x1), some (.int x2)]) (st1 := []) (σ1 := (wi σ 60 0 0)) rfl h9 ?_
        refine go_n 10 (f := (67, [some (.ref 60), some (.int x1), some (.int x2)], [.int x2, .int ((528 + (9 * x1)) + 7), .ref 61], (wi σ 60 0 0))) rfl ?_
        obtain ⟨h10, hf⟩ := grd hf
        refine go_iast rfl rfl rfl h10 ?_
        refine go_n 2 (f := (70, [some (.ref 60), some (.int x1), some (.int x2)], [.int 0, .ref 60], (wi (wi σ 60 0 0) 61 ((528 + (9 * x1)) + 7).toNatClampNeg x2))) rfl ?_
        obtain ⟨q11, h12, hf⟩ := bnd hf
        refine go_c (mid := 12035) (args := [.ref 60, .int 0]) (pc := 73) (L := [some (.ref 60), some (.int x1), some (.int x2)]) (st := []) (σ := (wi (wi σ 60 0 0) 61 ((528 + (9 * x1)) + 7).toNatClampNeg x2)) rfl ((fX7_told_ok _ _ q11 h12).deep (Nat.le_of_ble_eq_true rfl)) ?_
        cases hf
        exact go_r rfl
      · rw [if_neg h9] at hf
        refine go_if (t := 51) (f := 44) (L1 := [some (.ref 60), some (.int x1), some (.int x2)]) (st1 := []) (σ1 := (wi σ 60 0 0)) rfl h9 ?_
        refine go_n 2 (f := (47, [some (.ref 60), some (.int x1), some (.int x2)], [.int (-4), .ref 60], (wi σ 60 0 0))) rfl ?_
        obtain ⟨q13, h14, hf⟩ := bnd hf
        refine go_c (mid := 12035) (args := [.ref 60, .int (-4)]) (pc := 50) (L := [some (.ref 60), some (.int x1), some (.int x2)]) (st := []) (σ := (wi σ 60 0 0)) rfl ((fX7_told_ok _ _ q13 h14).deep (Nat.le_of_ble_eq_true rfl)) ?_
        cases hf
        exact go_r rfl
    · rw [if_neg h6] at hf
      refine go_if (t := 33) (f := 26) (L1 := [some (.ref 60), some (.int x1), some (.int x2)]) (st1 := []) (σ1 := (wi σ 60 0 0)) rfl h6 ?_
      refine go_n 2 (f := (29, [some (.ref 60), some (.int x1), some (.int x2)], [.int (-2), .ref 60], (wi σ 60 0 0))) rfl ?_
      obtain ⟨q15, h16, hf⟩ := bnd hf
      refine go_c (mid := 12035) (args := [.ref 60, .int (-2)]) (pc := 32) (L := [some (.ref 60), some (.int x1), some (.int x2)]) (st := []) (σ := (wi σ 60 0 0)) rfl ((fX7_told_ok _ _ q15 h16).deep (Nat.le_of_ble_eq_true rfl)) ?_
      cases hf
      exact go_r rfl
  · rw [if_neg h3] at hf
    refine go_if (t := 18) (f := 12) (L1 := [some (.ref 60), some (.int x1), some (.int x2)]) (st1 := []) (σ1 := (wi σ 60 0 0)) rfl h3 ?_
    refine go_n 2 (f := (14, [some (.ref 60), some (.int x1), some (.int x2)], [.int (-1), .ref 60], (wi σ 60 0 0))) rfl ?_
    obtain ⟨q17, h18, hf⟩ := bnd hf
    refine go_c (mid := 12035) (args := [.ref 60, .int (-1)]) (pc := 17) (L := [some (.ref 60), some (.int x1), some (.int x2)]) (st := []) (σ := (wi σ 60 0 0)) rfl ((fX7_told_ok _ _ q17 h18).deep (Nat.le_of_ble_eq_true rfl)) ?_
    cases hf
    exact go_r rfl
/-! OldWeatherModel.bitsAt(I)I -/
def fX7_bitsAt (x1 : Int32) (σ : Sg) : Option Int32 :=
  if inb x1 400 then if inb (x1 + 1) 400 then if inb (x1 + 2) 400 then if inb (x1 + 3) 400 then some (((((gi σ 66 x1.toNatClampNeg) <<< 24) ||| ((gi σ 66 (x1 + 1).toNatClampNeg) <<< 16)) ||| ((gi σ 66 (x1 + 2).toNatClampNeg) <<< 8)) ||| (gi σ 66 (x1 + 3).toNatClampNeg)) else none else none else none else none
set_option maxHeartbeats 1500000 in
theorem fX7_bitsAt_ok (x1 : Int32) (σ : Sg) (r : Int32) (hf : fX7_bitsAt x1 σ = some r) : Cl true 0 12071 [.ref 60, .int x1] σ (.inl (some (.int r)), σ) := by
  refine ⟨iX7_bitsAt, rfl, Nat.le_of_ble_eq_true rfl, Nat.le_of_ble_eq_true rfl, ?_⟩
  show Go true 0 iX7_bitsAt (0, [some (.ref 60), some (.int x1)], [], σ) (.inl (some (.int r)), σ)
  unfold fX7_bitsAt at hf
  refine go_n 3 (f := (5, [some (.ref 60), some (.int x1)], [.int x1, .ref 66], σ)) rfl ?_
  obtain ⟨h1, hf⟩ := grd hf
  refine go_iald rfl rfl rfl h1 ?_
  refine go_n 7 (f := (16, [some (.ref 60), some (.int x1)], [.int (x1 + 1), .ref 66, .int ((gi σ 66 x1.toNatClampNeg) <<< 24)], σ)) rfl ?_
  obtain ⟨h2, hf⟩ := grd hf
  refine go_iald rfl rfl rfl h2 ?_
  refine go_n 8 (f := (28, [some (.ref 60), some (.int x1)], [.int (x1 + 2), .ref 66, .int (((gi σ 66 x1.toNatClampNeg) <<< 24) ||| ((gi σ 66 (x1 + 1).toNatClampNeg) <<< 16))], σ)) rfl ?_
  obtain ⟨h3, hf⟩ := grd hf
  refine go_iald rfl rfl rfl h3 ?_
  refine go_n 8 (f := (40, [some (.ref 60), some (.int x1)], [.int (x1 + 3), .ref 66, .int ((((gi σ 66 x1.toNatClampNeg) <<< 24) ||| ((gi σ 66 (x1 + 1).toNatClampNeg) <<< 16)) ||| ((gi σ 66 (x1 + 2).toNatClampNeg) <<< 8))], σ)) rfl ?_
  obtain ⟨h4, hf⟩ := grd hf
  refine go_iald rfl rfl rfl h4 ?_
  refine go_n 1 (f := (42, [some (.ref 60), some (.int x1)], [.int (((((gi σ 66 x1.toNatClampNeg) <<< 24) ||| ((gi σ 66 (x1 + 1).toNatClampNeg) <<< 16)) ||| ((gi σ 66 (x1 + 2).toNatClampNeg) <<< 8)) ||| (gi σ 66 (x1 + 3).toNatClampNeg))], σ)) rfl ?_
  cases hf
  exact go_r rfl
/-! OldWeatherModel.degreesOf(I)I -/
def fX7_degreesOf_J69 (x0 : Int32) (x2 : Int64) (x4 : Int32)  : Option Int32 :=
  ((fun (z9 : Int64) => ((fun (z12 : Int32) => some z12) (if z9 ≤ 600 then (if 0 ≤ x0 then z9.toInt32 else (-z9).toInt32) else (-100000)))) (if x4 ≤ 0 then 0 else (if x4 ≤ 40 then ((x2 + ((1 : Int64) <<< (((x4 - 1) : Int32).toInt64 &&& 63))) >>> ((x4 : Int32).toInt64 &&& 63)) else 0)))
set_option maxHeartbeats 1500000 in
theorem fX7_degreesOf_J69_ok (x0 : Int32) (x2 : Int64) (x4 : Int32)  (σ : Sg)  (r : Int32) (hf : fX7_degreesOf_J69 x0 x2 x4  = some r) : Go true 0 iX7_degreesOf (69, [some (.int x0), none, some (.long x2), none, some (.int x4), none, none], [], σ) (.inl (some (.int r)), σ) := by
  unfold fX7_degreesOf_J69 at hf
  refine go_n 1 (f := (71, [some (.int x0), none, some (.long x2), none, some (.int x4), none, none], [.int x4], σ)) rfl ?_
  refine go_m (f := (96, [some (.int x0), none, none, none, none, none, none], [.long (if x4 ≤ 0 then 0 else (if x4 ≤ 40 then ((x2 + ((1 : Int64) <<< (((x4 - 1) : Int32).toInt64 &&& 63))) >>> ((x4 : Int32).toInt64 &&& 63)) else 0))], σ)) ?_ (fun hJ14 => ?_)
  · generalize hz9 : (if x4 ≤ 0 then 0 else (if x4 ≤ 40 then ((x2 + ((1 : Int64) <<< (((x4 - 1) : Int32).toInt64 &&& 63))) >>> ((x4 : Int32).toInt64 &&& 63)) else 0)) = z9 at hf ⊢
    try dsimp only at hf
    refine go_n 4 (f := (104, [some (.int x0), none, none, none, none, some (.long z9), none], [.int (lg_cmp z9 600)], σ)) rfl ?_
    refine go_m (f := (126, [none, none, none, none, none, none, none], [.int (if z9 ≤ 600 then (if 0 ≤ x0 then z9.toInt32 else (-z9).toInt32) else (-100000))], σ)) ?_ (fun hJ13 => ?_)
    · generalize hz12 : (if z9 ≤ 600 then (if 0 ≤ x0 then z9.toInt32 else (-z9).toInt32) else (-100000)) = z12 at hf ⊢
      try dsimp only at hf
      cases hf
      exact go_r rfl
    · by_cases h10 : z9 ≤ 600
      · refine go_it (t := 112) (f := 107) (L1 := [some (.int x0), none, none, none, none, some (.long z9), none]) (st1 := []) (σ1 := σ) rfl ((lgc_le z9 600).mpr h10) ?_
        refine go_n 1 (f := (113, [some (.int x0), none, none, none, none, some (.long z9), none], [.int x0], σ)) rfl ?_
        by_cases h11 : 0 ≤ x0
        · refine go_it (t := 123) (f := 116) (L1 := [some (.int x0), none, none, none, none, some (.long z9), none]) (st1 := []) (σ1 := σ) rfl h11 ?_
          refine go_n 2 (f := (126, [some (.int x0), none, none, none, none, some (.long z9), none], [.int z9.toInt32], σ)) rfl ?_
          refine go_e (L1 := [none, none, none, none, none, none, none]) rfl rfl ?_
          simp only [if_pos h10, if_pos h11] at hJ13
          first | exact hJ13 | (simp only [if_pos h10, if_pos h11]; exact hJ13)
        · refine go_if (t := 123) (f := 116) (L1 := [some (.int x0), none, none, none, none, some (.long z9), none]) (st1 := []) (σ1 := σ) rfl h11 ?_
          refine go_n 4 (f := (126, [some (.int x0), none, none, none, none, some (.long z9), none], [.int (-z9).toInt32], σ)) rfl ?_
          refine go_e (L1 := [none, none, none, none, none, none, none]) rfl rfl ?_
          simp only [if_pos h10, if_neg h11] at hJ13
          first | exact hJ13 | (simp only [if_pos h10, if_neg h11]; exact hJ13)
      · refine go_if (t := 112) (f := 107) (L1 := [some (.int x0), none, none, none, none, some (.long z9), none]) (st1 := []) (σ1 := σ) rfl (fun q => h10 ((lgc_le z9 600).mp q)) ?_
        refine go_n 2 (f := (126, [some (.int x0), none, none, none, none, some (.long z9), none], [.int (-100000)], σ)) rfl ?_
        refine go_e (L1 := [none, none, none, none, none, none, none]) rfl rfl ?_
        simp only [if_neg h10] at hJ13
        first | exact hJ13 | (simp only [if_neg h10]; exact hJ13)
  · by_cases h7 : x4 ≤ 0
    · refine go_it (t := 81) (f := 74) (L1 := [some (.int x0), none, some (.long x2), none, some (.int x4), none, none]) (st1 := []) (σ1 := σ) rfl h7 ?_
      refine go_e (L1 := [some (.int x0), none, none, none, none, none, none]) rfl rfl ?_
      refine go_n 2 (f := (96, [some (.int x0), none, none, none, none, none, none], [.long 0], σ)) rfl ?_
      refine go_e (L1 := [some (.int x0), none, none, none, none, none, none]) rfl rfl ?_
      simp only [if_pos h7] at hJ14
      first | exact hJ14 | (simp only [if_pos h7]; exact hJ14)
    · refine go_if (t := 81) (f := 74) (L1 := [some (.int x0), none, some (.long x2), none, some (.int x4), none, none]) (st1 := []) (σ1 := σ) rfl h7 ?_
      refine go_n 2 (f := (78, [some (.int x0), none, some (.long x2), none, some (.int x4), none, none], [.int 40, .int x4], σ)) rfl ?_
      by_cases h8 : x4 ≤ 40
      · refine go_it (t := 85) (f := 81) (L1 := [some (.int x0), none, some (.long x2), none, some (.int x4), none, none]) (st1 := []) (σ1 := σ) rfl h8 ?_
        refine go_n 9 (f := (96, [some (.int x0), none, some (.long x2), none, some (.int x4), none, none], [.long ((x2 + ((1 : Int64) <<< (((x4 - 1) : Int32).toInt64 &&& 63))) >>> ((x4 : Int32).toInt64 &&& 63))], σ)) rfl ?_
        refine go_e (L1 := [some (.int x0), none, none, none, none, none, none]) rfl rfl ?_
        simp only [if_neg h7, if_pos h8] at hJ14
        first | exact hJ14 | (simp only [if_neg h7, if_pos h8]; exact hJ14)
      · refine go_if (t := 85) (f := 81) (L1 := [some (.int x0), none, some (.long x2), none, some (.int x4), none, none]) (st1 := []) (σ1 := σ) rfl h8 ?_
        refine go_e (L1 := [some (.int x0), none, none, none, none, none, none]) rfl rfl ?_
        refine go_n 2 (f := (96, [some (.int x0), none, none, none, none, none, none], [.long 0], σ)) rfl ?_
        refine go_e (L1 := [some (.int x0), none, none, none, none, none, none]) rfl rfl ?_
        simp only [if_neg h7, if_neg h8] at hJ14
        first | exact hJ14 | (simp only [if_neg h7, if_neg h8]; exact hJ14)
def fX7_degreesOf (x0 : Int32) : Option Int32 :=
  ((fun (z2 : Int32) => ((fun (z4 : Int32) => if ((x0 >>> 23) &&& 255) = 255 then some (-100000) else if (10 * z2.toInt64) ≤ 0 then fX7_degreesOf_J69 x0 (10 * z2.toInt64) (150 - z4)   else if 0 < (150 - z4) then fX7_degreesOf_J69 x0 (10 * z2.toInt64) (150 - z4)   else some (-100000)) (if ((x0 >>> 23) &&& 255) ≠ 0 then ((x0 >>> 23) &&& 255) else 1))) (if ((x0 >>> 23) &&& 255) ≠ 0 then ((x0 &&& 8388607) ||| 8388608) else (x0 &&& 8388607)))
set_option maxHeartbeats 1500000 in
theorem fX7_degreesOf_ok (x0 : Int32) (σ : Sg) (r : Int32) (hf : fX7_degreesOf x0 = some r) : Cl true 0 12072 [.int x0] σ (.inl (some (.int r)), σ) := by
  refine ⟨iX7_degreesOf, rfl, Nat.le_of_ble_eq_true rfl, Nat.le_of_ble_eq_true rfl, ?_⟩
  show Go true 0 iX7_degreesOf (0, [some (.int x0), none, none, none, none, none, none], [], σ) (.inl (some (.int r)), σ)
  unfold fX7_degreesOf at hf
  refine go_n 8 (f := (13, [some (.int x0), some (.int ((x0 >>> 23) &&& 255)), none, none, none, none, none], [.int ((x0 >>> 23) &&& 255), .long 10], σ)) rfl ?_
  refine go_m (f := (30, [some (.int x0), some (.int ((x0 >>> 23) &&& 255)), none, none, none, none, none], [.int (if ((x0 >>> 23) &&& 255) ≠ 0 then ((x0 &&& 8388607) ||| 8388608) else (x0 &&& 8388607)), .long 10], σ)) ?_ (fun hJ17 => ?_)
  · generalize hz2 : (if ((x0 >>> 23) &&& 255) ≠ 0 then ((x0 &&& 8388607) ||| 8388608) else (x0 &&& 8388607)) = z2 at hf ⊢
    try dsimp only at hf
    refine go_n 5 (f := (37, [some (.int x0), some (.int ((x0 >>> 23) &&& 255)), some (.long (10 * z2.toInt64)), none, none, none, none], [.int ((x0 >>> 23) &&& 255), .int 150], σ)) rfl ?_
    refine go_m (f := (45, [some (.int x0), some (.int ((x0 >>> 23) &&& 255)), some (.long (10 * z2.toInt64)), none, none, none, none], [.int (if ((x0 >>> 23) &&& 255) ≠ 0 then ((x0 >>> 23) &&& 255) else 1), .int 150], σ)) ?_ (fun hJ16 => ?_)
    · generalize hz4 : (if ((x0 >>> 23) &&& 255) ≠ 0 then ((x0 >>> 23) &&& 255) else 1) = z4 at hf ⊢
      try dsimp only at hf
      refine go_n 4 (f := (52, [some (.int x0), some (.int ((x0 >>> 23) &&& 255)), some (.long (10 * z2.toInt64)), none, some (.int (150 - z4)), none, none], [.int 255, .int ((x0 >>> 23) &&& 255)], σ)) rfl ?_
      by_cases h5 : ((x0 >>> 23) &&& 255) = 255
      · rw [if_pos h5] at hf
        refine go_it (t := 66) (f := 55) (L1 := [some (.int x0), some (.int ((x0 >>> 23) &&& 255)), some (.long (10 * z2.toInt64)), none, some (.int (150 - z4)), none, none]) (st1 := []) (σ1 := σ) rfl h5 ?_
        refine go_e (L1 := [none, none, none, none, none, none, none]) rfl rfl ?_
        refine go_n 1 (f := (68, [none, none, none, none, none, none, none], [.int (-100000)], σ)) rfl ?_
        cases hf
        exact go_r rfl
      · rw [if_neg h5] at hf
        refine go_if (t := 66) (f := 55) (L1 := [some (.int x0), some (.int ((x0 >>> 23) &&& 255)), some (.long (10 * z2.toInt64)), none, some (.int (150 - z4)), none, none]) (st1 := []) (σ1 := σ) rfl h5 ?_
        refine go_n 3 (f := (58, [some (.int x0), some (.int ((x0 >>> 23) &&& 255)), some (.long (10 * z2.toInt64)), none, some (.int (150 - z4)), none, none], [.int (lg_cmp (10 * z2.toInt64) 0)], σ)) rfl ?_
        by_cases h6 : (10 * z2.toInt64) ≤ 0
        · rw [if_pos h6] at hf
          refine go_it (t := 69) (f := 61) (L1 := [some (.int x0), some (.int ((x0 >>> 23) &&& 255)), some (.long (10 * z2.toInt64)), none, some (.int (150 - z4)), none, none]) (st1 := []) (σ1 := σ) rfl ((lgc_le (10 * z2.toInt64) 0).mpr h6) ?_
          refine go_e (L1 := [some (.int x0), none, some (.long (10 * z2.toInt64)), none, some (.int (150 - z4)), none, none]) rfl rfl ?_
          exact fX7_degreesOf_J69_ok _ _ _  _  _ hf
        · rw [if_neg h6] at hf
          refine go_if (t := 69) (f := 61) (L1 := [some (.int x0), some (.int ((x0 >>> 23) &&& 255)), some (.long (10 * z2.toInt64)), none, some (.int (150 - z4)), none, none]) (st1 := []) (σ1 := σ) rfl (fun q => h6 ((lgc_le (10 * z2.toInt64) 0).mp q)) ?_
          refine go_n 1 (f := (63, [some (.int x0), some (.int ((x0 >>> 23) &&& 255)), some (.long (10 * z2.toInt64)), none, some (.int (150 - z4)), none, none], [.int (150 - z4)], σ)) rfl ?_
          by_cases h15 : 0 < (150 - z4)
          · rw [if_pos h15] at hf
            refine go_it (t := 69) (f := 66) (L1 := [some (.int x0), some (.int ((x0 >>> 23) &&& 255)), some (.long (10 * z2.toInt64)), none, some (.int (150 - z4)), none, none]) (st1 := []) (σ1 := σ) rfl h15 ?_
            refine go_e (L1 := [some (.int x0), none, some (.long (10 * z2.toInt64)), none, some (.int (150 - z4)), none, none]) rfl rfl ?_
            exact fX7_degreesOf_J69_ok _ _ _  _  _ hf
          · rw [if_neg h15] at hf
            refine go_if (t := 69) (f := 66) (L1 := [some (.int x0), some (.int ((x0 >>> 23) &&& 255)), some (.long (10 * z2.toInt64)), none, some (.int (150 - z4)), none, none]) (st1 := []) (σ1 := σ) rfl h15 ?_
            refine go_e (L1 := [none, none, none, none, none, none, none]) rfl rfl ?_
            refine go_n 1 (f := (68, [none, none, none, none, none, none, none], [.int (-100000)], σ)) rfl ?_
            cases hf
            exact go_r rfl
    · by_cases h3 : ((x0 >>> 23) &&& 255) ≠ 0
      · refine go_it (t := 44) (f := 40) (L1 := [some (.int x0), some (.int ((x0 >>> 23) &&& 255)), some (.long (10 * z2.toInt64)), none, none, none, none]) (st1 := [.int 150]) (σ1 := σ) rfl h3 ?_
        refine go_n 1 (f := (45, [some (.int x0), some (.int ((x0 >>> 23) &&& 255)), some (.long (10 * z2.toInt64)), none, none, none, none], [.int ((x0 >>> 23) &&& 255), .int 150], σ)) rfl ?_
        refine go_e (L1 := [some (.int x0), some (.int ((x0 >>> 23) &&& 255)), some (.long (10 * z2.toInt64)), none, none, none, none]) rfl rfl ?_
        simp only [if_pos h3] at hJ16
        first | exact hJ16 | (simp only [if_pos h3]; exact hJ16)
      · refine go_if (t := 44) (f := 40) (L1 := [some (.int x0), some (.int ((x0 >>> 23) &&& 255)), some (.long (10 * z2.toInt64)), none, none, none, none]) (st1 := [.int 150]) (σ1 := σ) rfl h3 ?_
        refine go_n 2 (f := (45, [some (.int x0), some (.int ((x0 >>> 23) &&& 255)), some (.long (10 * z2.toInt64)), none, none, none, none], [.int 1, .int 150], σ)) rfl ?_
        refine go_e (L1 := [some (.int x0), some (.int ((x0 >>> 23) &&& 255)), some (.long (10 * z2.toInt64)), none, none, none, none]) rfl rfl ?_
        simp only [if_neg h3] at hJ16
        first | exact hJ16 | (simp only [if_neg h3]; exact hJ16)
  · by_cases h1 : ((x0 >>> 23) &&& 255) ≠ 0
    · refine go_it (t := 23) (f := 16) (L1 := [some (.int x0), some (.int ((x0 >>> 23) &&& 255)), none, none, none, none, none]) (st1 := [.long 10]) (σ1 := σ) rfl h1 ?_
      refine go_n 5 (f := (30, [some (.int x0), some (.int ((x0 >>> 23) &&& 255)), none, none, none, none, none], [.int ((x0 &&& 8388607) ||| 8388608), .long 10], σ)) rfl ?_
      refine go_e (L1 := [some (.int x0), some (.int ((x0 >>> 23) &&& 255)), none, none, none, none, none]) rfl rfl ?_
      simp only [if_pos h1] at hJ17
      first | exact hJ17 | (simp only [if_pos h1]; exact hJ17)
    · refine go_if (t := 23) (f := 16) (L1 := [some (.int x0), some (.int ((x0 >>> 23) &&& 255)), none, none, none, none, none]) (st1 := [.long 10]) (σ1 := σ) rfl h1 ?_
      refine go_n 4 (f := (30, [some (.int x0), some (.int ((x0 >>> 23) &&& 255)), none, none, none, none, none], [.int (x0 &&& 8388607), .long 10], σ)) rfl ?_
      refine go_e (L1 := [some (.int x0), some (.int ((x0 >>> 23) &&& 255)), none, none, none, none, none]) rfl rfl ?_
      simp only [if_neg h1] at hJ17
      first | exact hJ17 | (simp only [if_neg h1]; exact hJ17)
/-! OldWeatherModel.four(I)V -/
def fX7_four_L3 (x1 : Int32)  (rec3 : (Int32 × Sg) → Option Sg) (s : Int32 × Sg) : Option Sg :=
  match s with
  | (x2, σ) => if x2 < 0 then some σ else if inb (gi σ 60 14) 400 then rec3 ((x2 + (-8)), (wi (wi σ 66 (gi σ 60 14).toNatClampNeg ((x1 >>> (x2 &&& 31)) &&& 255)) 60 14 ((gi σ 60 14) + 1))) else none
set_option maxHeartbeats 1500000 in
theorem fX7_four_L3_ok (x1 : Int32)   : ∀ (n : Nat) (x2 : Int32) (σ : Sg) (r : Sg), lp (fX7_four_L3 x1 ) n (x2, σ) = some r → Go true 0 iX7_four (3, [some (.ref 60), some (.int x1), some (.int x2)], [], σ) (.inl none, r) := by
  intro n
  induction n with
  | zero => intro x2 σ r hf; cases hf
  | succ n ih =>
    intro x2 σ r hf
    have hf : fX7_four_L3 x1  (lp (fX7_four_L3 x1 ) n) (x2, σ) = some r := hf
    have hrec3 := ih
    generalize lp (fX7_four_L3 x1 ) n = rec3 at hf hrec3
    unfold fX7_four_L3 at hf
    dsimp only at hf
    refine go_n 1 (f := (4, [some (.ref 60), some (.int x1), some (.int x2)], [.int x2], σ)) rfl ?_
    by_cases h1 : x2 < 0
    · rw [if_pos h1] at hf
      refine go_it (t := 39) (f := 7) (L1 := [some (.ref 60), some (.int x1), some (.int x2)]) (st1 := []) (σ1 := σ) rfl h1 ?_
      cases hf
      exact go_r rfl
    · rw [if_neg h1] at hf
      refine go_if (t := 39) (f := 7) (L1 := [some (.ref 60), some (.int x1), some (.int x2)]) (st1 := []) (σ1 := σ) rfl h1 ?_
      refine go_n 9 (f := (22, [some (.ref 60), some (.int x1), some (.int x2)], [.int ((x1 >>> (x2 &&& 31)) &&& 255), .int (gi σ 60 14), .ref 66], σ)) rfl ?_
      obtain ⟨h2, hf⟩ := grd hf
      refine go_iast rfl rfl rfl h2 ?_
      refine go_n 7 (f := (36, [some (.ref 60), some (.int x1), some (.int (x2 + (-8)))], [], (wi (wi σ 66 (gi σ 60 14).toNatClampNeg ((x1 >>> (x2 &&& 31)) &&& 255)) 60 14 ((gi σ 60 14) + 1)))) rfl ?_
      refine go_n 1 (f := (3, [some (.ref 60), some (.int x1), some (.int (x2 + (-8)))], [], (wi (wi σ 66 (gi σ 60 14).toNatClampNeg ((x1 >>> (x2 &&& 31)) &&& 255)) 60 14 ((gi σ 60 14) + 1)))) rfl ?_
      exact hrec3 _ _ _ hf
def fX7_four (x1 : Int32) (σ : Sg) : Option Sg :=
  lp (fX7_four_L3 x1 ) N0 (24, σ)
set_option maxHeartbeats 1500000 in
theorem fX7_four_ok (x1 : Int32) (σ : Sg) (r : Sg) (hf : fX7_four x1 σ = some r) : Cl true 0 12075 [.ref 60, .int x1] σ (.inl none, r) := by
  refine ⟨iX7_four, rfl, Nat.le_of_ble_eq_true rfl, Nat.le_of_ble_eq_true rfl, ?_⟩
  show Go true 0 iX7_four (0, [some (.ref 60), some (.int x1), none], [], σ) (.inl none, r)
  unfold fX7_four at hf
  refine go_n 2 (f := (3, [some (.ref 60), some (.int x1), some (.int 24)], [], σ)) rfl ?_
  exact fX7_four_L3_ok _   N0 _ _ _ hf
/-! OldWeatherModel.end(I)I -/
def fX7_end (x1 : Int32) (σ : Sg) : Option (Int32 × Sg) :=
  if x1 < 0 then some ((-1), (wi σ 60 0 0)) else if x1 ≤ (gi σ 60 14) then some (x1, (wi (wi σ 60 0 0) 60 14 x1)) else some ((-1), (wi σ 60 0 0))
set_option maxHeartbeats 1500000 in
theorem fX7_end_ok (x1 : Int32) (σ : Sg) (r : (Int32 × Sg)) (hf : fX7_end x1 σ = some r) : Cl true 0 12076 [.ref 60, .int x1] σ (.inl (some (.int (r).1)), (r).2) := by
  refine ⟨iX7_end, rfl, Nat.le_of_ble_eq_true rfl, Nat.le_of_ble_eq_true rfl, ?_⟩
  show Go true 0 iX7_end (0, [some (.ref 60), some (.int x1)], [], σ) (.inl (some (.int (r).1)), (r).2)
  unfold fX7_end at hf
  refine go_n 4 (f := (6, [some (.ref 60), some (.int x1)], [.int x1], (wi σ 60 0 0))) rfl ?_
  by_cases h1 : x1 < 0
  · rw [if_pos h1] at hf
    refine go_it (t := 17) (f := 9) (L1 := [some (.ref 60), some (.int x1)]) (st1 := []) (σ1 := (wi σ 60 0 0)) rfl h1 ?_
    refine go_e (L1 := [none, none]) rfl rfl ?_
    refine go_n 1 (f := (18, [none, none], [.int (-1)], (wi σ 60 0 0))) rfl ?_
    cases hf
    exact go_r rfl
  · rw [if_neg h1] at hf
    refine go_if (t := 17) (f := 9) (L1 := [some (.ref 60), some (.int x1)]) (st1 := []) (σ1 := (wi σ 60 0 0)) rfl h1 ?_
    refine go_n 3 (f := (14, [some (.ref 60), some (.int x1)], [.int (gi σ 60 14), .int x1], (wi σ 60 0 0))) rfl ?_
    by_cases h2 : x1 ≤ (gi σ 60 14)
    · rw [if_pos h2] at hf
      refine go_it (t := 19) (f := 17) (L1 := [some (.ref 60), some (.int x1)]) (st1 := []) (σ1 := (wi σ 60 0 0)) rfl h2 ?_
      refine go_n 4 (f := (25, [some (.ref 60), some (.int x1)], [.int x1], (wi (wi σ 60 0 0) 60 14 x1))) rfl ?_
      cases hf
      exact go_r rfl
    · rw [if_neg h2] at hf
      refine go_if (t := 19) (f := 17) (L1 := [some (.ref 60), some (.int x1)]) (st1 := []) (σ1 := (wi σ 60 0 0)) rfl h2 ?_
      refine go_e (L1 := [none, none]) rfl rfl ?_
      refine go_n 1 (f := (18, [none, none], [.int (-1)], (wi σ 60 0 0))) rfl ?_
      cases hf
      exact go_r rfl
/-! OldWeatherModel.fault()I -/
def fX7_fault  (σ : Sg) : Option (Int32 × Sg) :=
  some ((gi σ 60 19), (wi σ 60 0 0))
set_option maxHeartbeats 1500000 in
theorem fX7_fault_ok  (σ : Sg) (r : (Int32 × Sg)) (hf : fX7_fault  σ = some r) : Cl true 0 12077 [.ref 60] σ (.inl (some (.int (r).1)), (r).2) := by
  refine ⟨iX7_fault, rfl, Nat.le_of_ble_eq_true rfl, Nat.le_of_ble_eq_true rfl, ?_⟩
  show Go true 0 iX7_fault (0, [some (.ref 60)], [], σ) (.inl (some (.int (r).1)), (r).2)
  unfold fX7_fault at hf
  refine go_n 5 (f := (9, [some (.ref 60)], [.int (gi σ 60 19)], (wi σ 60 0 0))) rfl ?_
  cases hf
  exact go_r rfl
/-! OldWeatherModel.isSmall(I)Z -/
def fX7_isSmall (x0 : Int32) : Option Int32 :=
  ((fun (z3 : Int32) => some z3) ((if x0 < 97 then 0 else (if 122 < x0 then 0 else 1)) : Int32))
set_option maxHeartbeats 1500000 in
theorem fX7_isSmall_ok (x0 : Int32) (σ : Sg) (r : Int32) (hf : fX7_isSmall x0 = some r) : Cl true 0 12081 [.int x0] σ (.inl (some (.int r)), σ) := by
  refine ⟨iX7_isSmall, rfl, Nat.le_of_ble_eq_true rfl, Nat.le_of_ble_eq_true rfl, ?_⟩
  show Go true 0 iX7_isSmall (0, [some (.int x0)], [], σ) (.inl (some (.int r)), σ)
  unfold fX7_isSmall at hf
  refine go_n 2 (f := (3, [some (.int x0)], [.int 97, .int x0], σ)) rfl ?_
  refine go_m (f := (17, [none], [.int ((if x0 < 97 then 0 else (if 122 < x0 then 0 else 1)) : Int32)], σ)) ?_ (fun hJ4 => ?_)
  · generalize hz3 : ((if x0 < 97 then 0 else (if 122 < x0 then 0 else 1)) : Int32) = z3 at hf ⊢
    have oz3 : am_ok 3 z3 = true := hz3 ▸ (okb rfl (okb rfl rfl))
    try dsimp only at hf
    cases hf
    exact go_ret rfl rfl (Or.inr (Or.inl ⟨rfl, oz3⟩))
  · by_cases h1 : x0 < 97
    · refine go_it (t := 16) (f := 6) (L1 := [some (.int x0)]) (st1 := []) (σ1 := σ) rfl h1 ?_
      refine go_e (L1 := [none]) rfl rfl ?_
      refine go_n 1 (f := (17, [none], [.int 0], σ)) rfl ?_
      refine go_e (L1 := [none]) rfl rfl ?_
      simp only [if_pos h1] at hJ4
      first | exact hJ4 | (simp only [if_pos h1]; exact hJ4)
    · refine go_if (t := 16) (f := 6) (L1 := [some (.int x0)]) (st1 := []) (σ1 := σ) rfl h1 ?_
      refine go_n 2 (f := (9, [some (.int x0)], [.int 122, .int x0], σ)) rfl ?_
      by_cases h2 : 122 < x0
      · refine go_it (t := 16) (f := 12) (L1 := [some (.int x0)]) (st1 := []) (σ1 := σ) rfl h2 ?_
        refine go_e (L1 := [none]) rfl rfl ?_
        refine go_n 1 (f := (17, [none], [.int 0], σ)) rfl ?_
        refine go_e (L1 := [none]) rfl rfl ?_
        simp only [if_neg h1, if_pos h2] at hJ4
        first | exact hJ4 | (simp only [if_neg h1, if_pos h2]; exact hJ4)
      · refine go_if (t := 16) (f := 12) (L1 := [some (.int x0)]) (st1 := []) (σ1 := σ) rfl h2 ?_
        refine go_n 2 (f := (17, [some (.int x0)], [.int 1], σ)) rfl ?_
        refine go_e (L1 := [none]) rfl rfl ?_
        simp only [if_neg h1, if_neg h2] at hJ4
        first | exact hJ4 | (simp only [if_neg h1, if_neg h2]; exact hJ4)
/-! OldWeatherModel.isDigit(I)Z -/
def fX7_isDigit (x0 : Int32) : Option Int32 :=
  ((fun (z3 : Int32) => some z3) ((if x0 < 48 then 0 else (if 57 < x0 then 0 else 1)) : Int32))
set_option maxHeartbeats 1500000 in
theorem fX7_isDigit_ok (x0 : Int32) (σ : Sg) (r : Int32) (hf : fX7_isDigit x0 = some r) : Cl true 0 12082 [.int x0] σ (.inl (some (.int r)), σ) := by
  refine ⟨iX7_isDigit, rfl, Nat.le_of_ble_eq_true rfl, Nat.le_of_ble_eq_true rfl, ?_⟩
  show Go true 0 iX7_isDigit (0, [some (.int x0)], [], σ) (.inl (some (.int r)), σ)
  unfold fX7_isDigit at hf
  refine go_n 2 (f := (3, [some (.int x0)], [.int 48, .int x0], σ)) rfl ?_
  refine go_m (f := (17, [none], [.int ((if x0 < 48 then 0 else (if 57 < x0 then 0 else 1)) : Int32)], σ)) ?_ (fun hJ4 => ?_)
  · generalize hz3 : ((if x0 < 48 then 0 else (if 57 < x0 then 0 else 1)) : Int32) = z3 at hf ⊢
    have oz3 : am_ok 3 z3 = true := hz3 ▸ (okb rfl (okb rfl rfl))
    try dsimp only at hf
    cases hf
    exact go_ret rfl rfl (Or.inr (Or.inl ⟨rfl, oz3⟩))
  · by_cases h1 : x0 < 48
    · refine go_it (t := 16) (f := 6) (L1 := [some (.int x0)]) (st1 := []) (σ1 := σ) rfl h1 ?_
      refine go_e (L1 := [none]) rfl rfl ?_
      refine go_n 1 (f := (17, [none], [.int 0], σ)) rfl ?_
      refine go_e (L1 := [none]) rfl rfl ?_
      simp only [if_pos h1] at hJ4
      first | exact hJ4 | (simp only [if_pos h1]; exact hJ4)
    · refine go_if (t := 16) (f := 6) (L1 := [some (.int x0)]) (st1 := []) (σ1 := σ) rfl h1 ?_
      refine go_n 2 (f := (9, [some (.int x0)], [.int 57, .int x0], σ)) rfl ?_
      by_cases h2 : 57 < x0
      · refine go_it (t := 16) (f := 12) (L1 := [some (.int x0)]) (st1 := []) (σ1 := σ) rfl h2 ?_
        refine go_e (L1 := [none]) rfl rfl ?_
        refine go_n 1 (f := (17, [none], [.int 0], σ)) rfl ?_
        refine go_e (L1 := [none]) rfl rfl ?_
        simp only [if_neg h1, if_pos h2] at hJ4
        first | exact hJ4 | (simp only [if_neg h1, if_pos h2]; exact hJ4)
      · refine go_if (t := 16) (f := 12) (L1 := [some (.int x0)]) (st1 := []) (σ1 := σ) rfl h2 ?_
        refine go_n 2 (f := (17, [some (.int x0)], [.int 1], σ)) rfl ?_
        refine go_e (L1 := [none]) rfl rfl ?_
        simp only [if_neg h1, if_neg h2] at hJ4
        first | exact hJ4 | (simp only [if_neg h1, if_neg h2]; exact hJ4)
/-! OldWeatherModel.isWord(J)Z -/
def fX7_isWord (x1 : Int64) (σ : Sg) : Option Int32 :=
  ((fun (z3 : Int32) => some z3) ((if (gi σ 60 17) ≠ 1 then 0 else (if (gl σ 60 18) ≠ x1 then 0 else 1)) : Int32))
set_option maxHeartbeats 1500000 in
theorem fX7_isWord_ok (x1 : Int64) (σ : Sg) (r : Int32) (hf : fX7_isWord x1 σ = some r) : Cl true 0 12085 [.ref 60, .long x1] σ (.inl (some (.int r)), σ) := by
  refine ⟨iX7_isWord, rfl, Nat.le_of_ble_eq_true rfl, Nat.le_of_ble_eq_true rfl, ?_⟩
  show Go true 0 iX7_isWord (0, [some (.ref 60), some (.long x1), none], [], σ) (.inl (some (.int r)), σ)
  unfold fX7_isWord at hf
  refine go_n 3 (f := (5, [some (.ref 60), some (.long x1), none], [.int 1, .int (gi σ 60 17)], σ)) rfl ?_
  refine go_m (f := (22, [none, none, none], [.int ((if (gi σ 60 17) ≠ 1 then 0 else (if (gl σ 60 18) ≠ x1 then 0 else 1)) : Int32)], σ)) ?_ (fun hJ4 => ?_)
  · generalize hz3 : ((if (gi σ 60 17) ≠ 1 then 0 else (if (gl σ 60 18) ≠ x1 then 0 else 1)) : Int32) = z3 at hf ⊢
    have oz3 : am_ok 3 z3 = true := hz3 ▸ (okb rfl (okb rfl rfl))
    try dsimp only at hf
    cases hf
    exact go_ret rfl rfl (Or.inr (Or.inl ⟨rfl, oz3⟩))
  · by_cases h1 : (gi σ 60 17) ≠ 1
    · refine go_it (t := 21) (f := 8) (L1 := [some (.ref 60), some (.long x1), none]) (st1 := []) (σ1 := σ) rfl h1 ?_
      refine go_e (L1 := [none, none, none]) rfl rfl ?_
      refine go_n 1 (f := (22, [none, none, none], [.int 0], σ)) rfl ?_
      refine go_e (L1 := [none, none, none]) rfl rfl ?_
      simp only [if_pos h1] at hJ4
      first | exact hJ4 | (simp only [if_pos h1]; exact hJ4)
    · refine go_if (t := 21) (f := 8) (L1 := [some (.ref 60), some (.long x1), none]) (st1 := []) (σ1 := σ) rfl h1 ?_
      refine go_n 4 (f := (14, [some (.ref 60), some (.long x1), none], [.int (lg_cmp (gl σ 60 18) x1)], σ)) rfl ?_
      by_cases h2 : (gl σ 60 18) ≠ x1
      · refine go_it (t := 21) (f := 17) (L1 := [some (.ref 60), some (.long x1), none]) (st1 := []) (σ1 := σ) rfl ((lgc_ne (gl σ 60 18) x1).mpr h2) ?_
        refine go_e (L1 := [none, none, none]) rfl rfl ?_
        refine go_n 1 (f := (22, [none, none, none], [.int 0], σ)) rfl ?_
        refine go_e (L1 := [none, none, none]) rfl rfl ?_
        simp only [if_neg h1, if_pos h2] at hJ4
        first | exact hJ4 | (simp only [if_neg h1, if_pos h2]; exact hJ4)
      · refine go_if (t := 21) (f := 17) (L1 := [some (.ref 60), some (.long x1), none]) (st1 := []) (σ1 := σ) rfl (fun q => h2 ((lgc_ne (gl σ 60 18) x1).mp q)) ?_
        refine go_n 2 (f := (22, [some (.ref 60), some (.long x1), none], [.int 1], σ)) rfl ?_
        refine go_e (L1 := [none, none, none]) rfl rfl ?_
        simp only [if_neg h1, if_neg h2] at hJ4
        first | exact hJ4 | (simp only [if_neg h1, if_neg h2]; exact hJ4)
/-! OldWeatherModel.kindAt()I -/
def fX7_kindAt  (σ : Sg) : Option Int32 :=
  (fX7_isWord 769604 σ).bind fun q1 => if q1 = 0 then (fX7_isWord 7394533 σ).bind fun q4 => if q4 = 0 then (fX7_isWord 17383193 σ).bind fun q7 => if q7 = 0 then (fX7_isWord 114201 σ).bind fun q10 => ((fun (z13 : Int32) => some z13) ((if q10 = 0 then (-1) else 4) : Int32)) else some 3 else some 1 else some 0
set_option maxHeartbeats 1500000 in
theorem fX7_kindAt_ok  (σ : Sg) (r : Int32) (hf : fX7_kindAt  σ = some r) : Cl true 1 12088 [.ref 60] σ (.inl (some (.int r)), σ) := by
  refine ⟨iX7_kindAt, rfl, Nat.le_of_ble_eq_true rfl, Nat.le_of_ble_eq_true rfl, ?_⟩
  show Go true 1 iX7_kindAt (0, [some (.ref 60)], [], σ) (.inl (some (.int r)), σ)
  unfold fX7_kindAt at hf
  refine go_n 2 (f := (4, [some (.ref 60)], [.long 769604, .ref 60], σ)) rfl ?_
  obtain ⟨q1, h2, hf⟩ := bnd hf
  refine go_c (mid := 12085) (args := [.ref 60, .long 769604]) (pc := 7) (L := [some (.ref 60)]) (st := []) (σ := σ) rfl ((fX7_isWord_ok _ _ q1 h2).deep (Nat.le_of_ble_eq_true rfl)) ?_
  by_cases h3 : q1 = 0
  · rw [if_pos h3] at hf
    refine go_it (t := 14) (f := 10) (L1 := [some (.ref 60)]) (st1 := []) (σ1 := σ) rfl h3 ?_
    refine go_n 2 (f := (18, [some (.ref 60)], [.long 7394533, .ref 60], σ)) rfl ?_
    obtain ⟨q4, h5, hf⟩ := bnd hf
    refine go_c (mid := 12085) (args := [.ref 60, .long 7394533]) (pc := 21) (L := [some (.ref 60)]) (st := []) (σ := σ) rfl ((fX7_isWord_ok _ _ q4 h5).deep (Nat.le_of_ble_eq_true rfl)) ?_
    by_cases h6 : q4 = 0
    · rw [if_pos h6] at hf
      refine go_it (t := 28) (f := 24) (L1 := [some (.ref 60)]) (st1 := []) (σ1 := σ) rfl h6 ?_
      refine go_n 2 (f := (32, [some (.ref 60)], [.long 17383193, .ref 60], σ)) rfl ?_
      obtain ⟨q7, h8, hf⟩ := bnd hf
      refine go_c (mid := 12085) (args := [.ref 60, .long 17383193]) (pc := 35) (L := [some (.ref 60)]) (st := []) (σ := σ) rfl ((fX7_isWord_ok _ _ q7 h8).deep (Nat.le_of_ble_eq_true rfl)) ?_
      by_cases h9 : q7 = 0
      · rw [if_pos h9] at hf
        refine go_it (t := 42) (f := 38) (L1 := [some (.ref 60)]) (st1 := []) (σ1 := σ) rfl h9 ?_
        refine go_n 2 (f := (46, [some (.ref 60)], [.long 114201, .ref 60], σ)) rfl ?_
        obtain ⟨q10, h11, hf⟩ := bnd hf
        refine go_c (mid := 12085) (args := [.ref 60, .long 114201]) (pc := 49) (L := [some (.ref 60)]) (st := []) (σ := σ) rfl ((fX7_isWord_ok _ _ q10 h11).deep (Nat.le_of_ble_eq_true rfl)) ?_
        refine go_m (f := (57, [none], [.int ((if q10 = 0 then (-1) else 4) : Int32)], σ)) ?_ (fun hJ14 => ?_)
        · generalize hz13 : ((if q10 = 0 then (-1) else 4) : Int32) = z13 at hf ⊢
          try dsimp only at hf
          cases hf
          exact go_r rfl
        · by_cases h12 : q10 = 0
          · refine go_it (t := 56) (f := 52) (L1 := [some (.ref 60)]) (st1 := []) (σ1 := σ) rfl h12 ?_
            refine go_n 1 (f := (57, [some (.ref 60)], [.int (-1)], σ)) rfl ?_
            refine go_e (L1 := [none]) rfl rfl ?_
            simp only [if_pos h12] at hJ14
            first | exact hJ14 | (simp only [if_pos h12]; exact hJ14)
          · refine go_if (t := 56) (f := 52) (L1 := [some (.ref 60)]) (st1 := []) (σ1 := σ) rfl h12 ?_
            refine go_n 2 (f := (57, [some (.ref 60)], [.int 4], σ)) rfl ?_
            refine go_e (L1 := [none]) rfl rfl ?_
            simp only [if_neg h12] at hJ14
            first | exact hJ14 | (simp only [if_neg h12]; exact hJ14)
      · rw [if_neg h9] at hf
        refine go_if (t := 42) (f := 38) (L1 := [some (.ref 60)]) (st1 := []) (σ1 := σ) rfl h9 ?_
        refine go_n 2 (f := (57, [some (.ref 60)], [.int 3], σ)) rfl ?_
        refine go_e (L1 := [none]) rfl rfl ?_
        cases hf
        exact go_r rfl
    · rw [if_neg h6] at hf
      refine go_if (t := 28) (f := 24) (L1 := [some (.ref 60)]) (st1 := []) (σ1 := σ) rfl h6 ?_
      refine go_n 2 (f := (57, [some (.ref 60)], [.int 1], σ)) rfl ?_
      refine go_e (L1 := [none]) rfl rfl ?_
      cases hf
      exact go_r rfl
  · rw [if_neg h3] at hf
    refine go_if (t := 14) (f := 10) (L1 := [some (.ref 60)]) (st1 := []) (σ1 := σ) rfl h3 ?_
    refine go_n 2 (f := (57, [some (.ref 60)], [.int 0], σ)) rfl ?_
    refine go_e (L1 := [none]) rfl rfl ?_
    cases hf
    exact go_r rfl
/-! OldWeatherModel.push(II)V -/
def fX7_push (x1 : Int32) (x2 : Int32) (σ : Sg) : Option Sg :=
  if inb (gi σ 60 29) 400 then if inb (gi σ 60 29) 400 then some (wi (wi (wi σ 70 (gi σ 60 29).toNatClampNeg x1) 71 (gi σ 60 29).toNatClampNeg x2) 60 29 ((gi σ 60 29) + 1)) else none else none
set_option maxHeartbeats 1500000 in
theorem fX7_push_ok (x1 : Int32) (x2 : Int32) (σ : Sg) (r : Sg) (hf : fX7_push x1 x2 σ = some r) : Cl true 0 12093 [.ref 60, .int x1, .int x2] σ (.inl none, r) := by
  refine ⟨iX7_push, rfl, Nat.le_of_ble_eq_true rfl, Nat.le_of_ble_eq_true rfl, ?_⟩
  show Go true 0 iX7_push (0, [some (.ref 60), some (.int x1), some (.int x2)], [], σ) (.inl none, r)
  unfold fX7_push at hf
  refine go_n 5 (f := (9, [some (.ref 60), some (.int x1), some (.int x2)], [.int x1, .int (gi σ 60 29), .ref 70], σ)) rfl ?_
  obtain ⟨h1, hf⟩ := grd hf
  refine go_iast rfl rfl rfl h1 ?_
  refine go_n 5 (f := (19, [some (.ref 60), some (.int x1), some (.int x2)], [.int x2, .int (gi σ 60 29), .ref 71], (wi σ 70 (gi σ 60 29).toNatClampNeg x1))) rfl ?_
  obtain ⟨h2, hf⟩ := grd hf
  refine go_iast rfl rfl rfl h2 ?_
  refine go_n 6 (f := (30, [some (.ref 60), some (.int x1), some (.int x2)], [], (wi (wi (wi σ 70 (gi σ 60 29).toNatClampNeg x1) 71 (gi σ 60 29).toNatClampNeg x2) 60 29 ((gi σ 60 29) + 1)))) rfl ?_
  cases hf
  exact go_r rfl
/-! OldWeatherModel.isSign(I)Z -/
def fX7_isSign (x1 : Int32) (σ : Sg) : Option Int32 :=
  ((fun (z3 : Int32) => some z3) ((if (gi σ 60 17) ≠ 3 then 0 else (if (gl σ 60 18) ≠ x1.toInt64 then 0 else 1)) : Int32))
set_option maxHeartbeats 1500000 in
theorem fX7_isSign_ok (x1 : Int32) (σ : Sg) (r : Int32) (hf : fX7_isSign x1 σ = some r) : Cl true 0 12094 [.ref 60, .int x1] σ (.inl (some (.int r)), σ) := by
  refine ⟨iX7_isSign, rfl, Nat.le_of_ble_eq_true rfl, Nat.le_of_ble_eq_true rfl, ?_⟩
  show Go true 0 iX7_isSign (0, [some (.ref 60), some (.int x1)], [], σ) (.inl (some (.int r)), σ)
  unfold fX7_isSign at hf
  refine go_n 3 (f := (5, [some (.ref 60), some (.int x1)], [.int 3, .int (gi σ 60 17)], σ)) rfl ?_
  refine go_m (f := (23, [none, none], [.int ((if (gi σ 60 17) ≠ 3 then 0 else (if (gl σ 60 18) ≠ x1.toInt64 then 0 else 1)) : Int32)], σ)) ?_ (fun hJ4 => ?_)
  · generalize hz3 : ((if (gi σ 60 17) ≠ 3 then 0 else (if (gl σ 60 18) ≠ x1.toInt64 then 0 else 1)) : Int32) = z3 at hf ⊢
    have oz3 : am_ok 3 z3 = true := hz3 ▸ (okb rfl (okb rfl rfl))
    try dsimp only at hf
    cases hf
    exact go_ret rfl rfl (Or.inr (Or.inl ⟨rfl, oz3⟩))
  · by_cases h1 : (gi σ 60 17) ≠ 3
    · refine go_it (t := 22) (f := 8) (L1 := [some (.ref 60), some (.int x1)]) (st1 := []) (σ1 := σ) rfl h1 ?_
      refine go_e (L1 := [none, none]) rfl rfl ?_
      refine go_n 1 (f := (23, [none, none], [.int 0], σ)) rfl ?_
      refine go_e (L1 := [none, none]) rfl rfl ?_
      simp only [if_pos h1] at hJ4
      first | exact hJ4 | (simp only [if_pos h1]; exact hJ4)
    · refine go_if (t := 22) (f := 8) (L1 := [some (.ref 60), some (.int x1)]) (st1 := []) (σ1 := σ) rfl h1 ?_
      refine go_n 5 (f := (15, [some (.ref 60), some (.int x1)], [.int (lg_cmp (gl σ 60 18) x1.toInt64)], σ)) rfl ?_
      by_cases h2 : (gl σ 60 18) ≠ x1.toInt64
      · refine go_it (t := 22) (f := 18) (L1 := [some (.ref 60), some (.int x1)]) (st1 := []) (σ1 := σ) rfl ((lgc_ne (gl σ 60 18) x1.toInt64).mpr h2) ?_
        refine go_e (L1 := [none, none]) rfl rfl ?_
        refine go_n 1 (f := (23, [none, none], [.int 0], σ)) rfl ?_
        refine go_e (L1 := [none, none]) rfl rfl ?_
        simp only [if_neg h1, if_pos h2] at hJ4
        first | exact hJ4 | (simp only [if_neg h1, if_pos h2]; exact hJ4)
      · refine go_if (t := 22) (f := 18) (L1 := [some (.ref 60), some (.int x1)]) (st1 := []) (σ1 := σ) rfl (fun q => h2 ((lgc_ne (gl σ 60 18) x1.toInt64).mp q)) ?_
        refine go_n 2 (f := (23, [some (.ref 60), some (.int x1)], [.int 1], σ)) rfl ?_
        refine go_e (L1 := [none, none]) rfl rfl ?_
        simp only [if_neg h1, if_neg h2] at hJ4
        first | exact hJ4 | (simp only [if_neg h1, if_neg h2]; exact hJ4)
/-! OldWeatherModel.partAt()I -/
def fX7_partAt_J30   (σ : Sg) : Option Int32 :=
  (fX7_isWord 14137992 σ).bind fun q4 => if q4 = 0 then (fX7_isWord 824370 σ).bind fun q7 => ((fun (z10 : Int32) => some z10) ((if q7 = 0 then 3 else 2) : Int32)) else some 1
set_option maxHeartbeats 1500000 in
theorem fX7_partAt_J30_ok   (σ : Sg)  (r : Int32) (hf : fX7_partAt_J30   σ = some r) : Go true 1 iX7_partAt (30, [some (.ref 60)], [], σ) (.inl (some (.int r)), σ) := by
  unfold fX7_partAt_J30 at hf
  refine go_n 2 (f := (34, [some (.ref 60)], [.long 14137992, .ref 60], σ)) rfl ?_
  obtain ⟨q4, h5, hf⟩ := bnd hf
  refine go_c (mid := 12085) (args := [.ref 60, .long 14137992]) (pc := 37) (L := [some (.ref 60)]) (st := []) (σ := σ) rfl ((fX7_isWord_ok _ _ q4 h5).deep (Nat.le_of_ble_eq_true rfl)) ?_
  by_cases h6 : q4 = 0
  · rw [if_pos h6] at hf
    refine go_it (t := 44) (f := 40) (L1 := [some (.ref 60)]) (st1 := []) (σ1 := σ) rfl h6 ?_
    refine go_n 2 (f := (48, [some (.ref 60)], [.long 824370, .ref 60], σ)) rfl ?_
    obtain ⟨q7, h8, hf⟩ := bnd hf
    refine go_c (mid := 12085) (args := [.ref 60, .long 824370]) (pc := 51) (L := [some (.ref 60)]) (st := []) (σ := σ) rfl ((fX7_isWord_ok _ _ q7 h8).deep (Nat.le_of_ble_eq_true rfl)) ?_
    refine go_m (f := (59, [none], [.int ((if q7 = 0 then 3 else 2) : Int32)], σ)) ?_ (fun hJ11 => ?_)
    · generalize hz10 : ((if q7 = 0 then 3 else 2) : Int32) = z10 at hf ⊢
      try dsimp only at hf
      cases hf
      exact go_r rfl
    · by_cases h9 : q7 = 0
      · refine go_it (t := 58) (f := 54) (L1 := [some (.ref 60)]) (st1 := []) (σ1 := σ) rfl h9 ?_
        refine go_n 1 (f := (59, [some (.ref 60)], [.int 3], σ)) rfl ?_
        refine go_e (L1 := [none]) rfl rfl ?_
        simp only [if_pos h9] at hJ11
        first | exact hJ11 | (simp only [if_pos h9]; exact hJ11)
      · refine go_if (t := 58) (f := 54) (L1 := [some (.ref 60)]) (st1 := []) (σ1 := σ) rfl h9 ?_
        refine go_n 2 (f := (59, [some (.ref 60)], [.int 2], σ)) rfl ?_
        refine go_e (L1 := [none]) rfl rfl ?_
        simp only [if_neg h9] at hJ11
        first | exact hJ11 | (simp only [if_neg h9]; exact hJ11)
  · rw [if_neg h6] at hf
    refine go_if (t := 44) (f := 40) (L1 := [some (.ref 60)]) (st1 := []) (σ1 := σ) rfl h6 ?_
    refine go_n 2 (f := (59, [some (.ref 60)], [.int 1], σ)) rfl ?_
    refine go_e (L1 := [none]) rfl rfl ?_
    cases hf
    exact go_r rfl
def fX7_partAt  (σ : Sg) : Option Int32 :=
  (fX7_isWord 14137992 σ).bind fun q1 => if q1 ≠ 0 then fX7_partAt_J30   σ else (fX7_isWord 824370 σ).bind fun q12 => if q12 ≠ 0 then fX7_partAt_J30   σ else (fX7_isWord 273980692 σ).bind fun q15 => if q15 = 0 then (fX7_isWord 263620 σ).bind fun q18 => if q18 = 0 then (fX7_isWord 23114405 σ).bind fun q21 => if q21 = 0 then (fX7_isWord 653969509 σ).bind fun q24 => if q24 = 0 then (fX7_isWord 431150 σ).bind fun q27 => ((fun (z30 : Int32) => some z30) ((if q27 = 0 then (-1) else 7) : Int32)) else some 6 else some 5 else some 4 else fX7_partAt_J30   σ
set_option maxHeartbeats 1500000 in
theorem fX7_partAt_ok  (σ : Sg) (r : Int32) (hf : fX7_partAt  σ = some r) : Cl true 1 12097 [.ref 60] σ (.inl (some (.int r)), σ) := by
  refine ⟨iX7_partAt, rfl, Nat.le_of_ble_eq_true rfl, Nat.le_of_ble_eq_true rfl, ?_⟩
  show Go true 1 iX7_partAt (0, [some (.ref 60)], [], σ) (.inl (some (.int r)), σ)
  unfold fX7_partAt at hf
  refine go_n 2 (f := (4, [some (.ref 60)], [.long 14137992, .ref 60], σ)) rfl ?_
  obtain ⟨q1, h2, hf⟩ := bnd hf
  refine go_c (mid := 12085) (args := [.ref 60, .long 14137992]) (pc := 7) (L := [some (.ref 60)]) (st := []) (σ := σ) rfl ((fX7_isWord_ok _ _ q1 h2).deep (Nat.le_of_ble_eq_true rfl)) ?_
  by_cases h3 : q1 ≠ 0
  · rw [if_pos h3] at hf
    refine go_it (t := 30) (f := 10) (L1 := [some (.ref 60)]) (st1 := []) (σ1 := σ) rfl h3 ?_
    exact fX7_partAt_J30_ok   _  _ hf
  · rw [if_neg h3] at hf
    refine go_if (t := 30) (f := 10) (L1 := [some (.ref 60)]) (st1 := []) (σ1 := σ) rfl h3 ?_
    refine go_n 2 (f := (14, [some (.ref 60)], [.long 824370, .ref 60], σ)) rfl ?_
    obtain ⟨q12, h13, hf⟩ := bnd hf
    refine go_c (mid := 12085) (args := [.ref 60, .long 824370]) (pc := 17) (L := [some (.ref 60)]) (st := []) (σ := σ) rfl ((fX7_isWord_ok _ _ q12 h13).deep (Nat.le_of_ble_eq_true rfl)) ?_
    by_cases h14 : q12 ≠ 0
    · rw [if_pos h14] at hf
      refine go_it (t := 30) (f := 20) (L1 := [some (.ref 60)]) (st1 := []) (σ1 := σ) rfl h14 ?_
      exact fX7_partAt_J30_ok   _  _ hf
    · rw [if_neg h14] at hf
      refine go_if (t := 30) (f := 20) (L1 := [some (.ref 60)]) (st1 := []) (σ1 := σ) rfl h14 ?_
      refine go_n 2 (f := (24, [some (.ref 60)], [.long 273980692, .ref 60], σ)) rfl ?_
      obtain ⟨q15, h16, hf⟩ := bnd hf
      refine go_c (mid := 12085) (args := [.ref 60, .long 273980692]) (pc := 27) (L := [some (.ref 60)]) (st := []) (σ := σ) rfl ((fX7_isWord_ok _ _ q15 h16).deep (Nat.le_of_ble_eq_true rfl)) ?_
      by_cases h17 : q15 = 0
      · rw [if_pos h17] at hf
        refine go_it (t := 60) (f := 30) (L1 := [some (.ref 60)]) (st1 := []) (σ1 := σ) rfl h17 ?_
        refine go_n 2 (f := (64, [some (.ref 60)], [.long 263620, .ref 60], σ)) rfl ?_
        obtain ⟨q18, h19, hf⟩ := bnd hf
        refine go_c (mid := 12085) (args := [.ref 60, .long 263620]) (pc := 67) (L := [some (.ref 60)]) (st := []) (σ := σ) rfl ((fX7_isWord_ok _ _ q18 h19).deep (Nat.le_of_ble_eq_true rfl)) ?_
        by_cases h20 : q18 = 0
        · rw [if_pos h20] at hf
          refine go_it (t := 74) (f := 70) (L1 := [some (.ref 60)]) (st1 := []) (σ1 := σ) rfl h20 ?_
          refine go_n 2 (f := (78, [some (.ref 60)], [.long 23114405, .ref 60], σ)) rfl ?_
          obtain ⟨q21, h22, hf⟩ := bnd hf
          refine go_c (mid := 12085) (args := [.ref 60, .long 23114405]) (pc := 81) (L := [some (.ref 60)]) (st := []) (σ := σ) rfl ((fX7_isWord_ok _ _ q21 h22).deep (Nat.le_of_ble_eq_true rfl)) ?_
          by_cases h23 : q21 = 0
          · rw [if_pos h23] at hf
            refine go_it (t := 88) (f := 84) (L1 := [some (.ref 60)]) (st1 := []) (σ1 := σ) rfl h23 ?_
            refine go_n 2 (f := (92, [some (.ref 60)], [.long 653969509, .ref 60], σ)) rfl ?_
            obtain ⟨q24, h25, hf⟩ := bnd hf
            refine go_c (mid := 12085) (args := [.ref 60, .long 653969509]) (pc := 95) (L := [some (.ref 60)]) (st := []) (σ := σ) rfl ((fX7_isWord_ok _ _ q24 h25).deep (Nat.le_of_ble_eq_true rfl)) ?_
            by_cases h26 : q24 = 0
            · rw [if_pos h26] at hf
              refine go_it (t := 103) (f := 98) (L1 := [some (.ref 60)]) (st1 := []) (σ1 := σ) rfl h26 ?_
              refine go_n 2 (f := (107, [some (.ref 60)], [.long 431150, .ref 60], σ)) rfl ?_
              obtain ⟨q27, h28, hf⟩ := bnd hf
              refine go_c (mid := 12085) (args := [.ref 60, .long 431150]) (pc := 110) (L := [some (.ref 60)]) (st := []) (σ := σ) rfl ((fX7_isWord_ok _ _ q27 h28).deep (Nat.le_of_ble_eq_true rfl)) ?_
              refine go_m (f := (119, [none], [.int ((if q27 = 0 then (-1) else 7) : Int32)], σ)) ?_ (fun hJ31 => ?_)
              · generalize hz30 : ((if q27 = 0 then (-1) else 7) : Int32) = z30 at hf ⊢
                try dsimp only at hf
                cases hf
                exact go_r rfl
              · by_cases h29 : q27 = 0
                · refine go_it (t := 118) (f := 113) (L1 := [some (.ref 60)]) (st1 := []) (σ1 := σ) rfl h29 ?_
                  refine go_n 1 (f := (119, [some (.ref 60)], [.int (-1)], σ)) rfl ?_
                  refine go_e (L1 := [none]) rfl rfl ?_
                  simp only [if_pos h29] at hJ31
                  first | exact hJ31 | (simp only [if_pos h29]; exact hJ31)
                · refine go_if (t := 118) (f := 113) (L1 := [some (.ref 60)]) (st1 := []) (σ1 := σ) rfl h29 ?_
                  refine go_n 2 (f := (119, [some (.ref 60)], [.int 7], σ)) rfl ?_
                  refine go_e (L1 := [none]) rfl rfl ?_
                  simp only [if_neg h29] at hJ31
                  first | exact hJ31 | (simp only [if_neg h29]; exact hJ31)
            · rw [if_neg h26] at hf
              refine go_if (t := 103) (f := 98) (L1 := [some (.ref 60)]) (st1 := []) (σ1 := σ) rfl h26 ?_
              refine go_n 2 (f := (119, [some (.ref 60)], [.int 6], σ)) rfl ?_
              refine go_e (L1 := [none]) rfl rfl ?_
              cases hf
              exact go_r rfl
          · rw [if_neg h23] at hf
            refine go_if (t := 88) (f := 84) (L1 := [some (.ref 60)]) (st1 := []) (σ1 := σ) rfl h23 ?_
            refine go_n 2 (f := (119, [some (.ref 60)], [.int 5], σ)) rfl ?_
            refine go_e (L1 := [none]) rfl rfl ?_
            cases hf
            exact go_r rfl
        · rw [if_neg h20] at hf
          refine go_if (t := 74) (f := 70) (L1 := [some (.ref 60)]) (st1 := []) (σ1 := σ) rfl h20 ?_
          refine go_n 2 (f := (119, [some (.ref 60)], [.int 4], σ)) rfl ?_
          refine go_e (L1 := [none]) rfl rfl ?_
          cases hf
          exact go_r rfl
      · rw [if_neg h17] at hf
        refine go_if (t := 60) (f := 30) (L1 := [some (.ref 60)]) (st1 := []) (σ1 := σ) rfl h17 ?_
        exact fX7_partAt_J30_ok   _  _ hf
/-! OldWeatherModel.emit(II)V -/
def fX7_emit (x1 : Int32) (x2 : Int32) (σ : Sg) : Option Sg :=
  if inb (gi σ 60 23) 400 then if inb (gi σ 60 23) 400 then some (wi (wi (wi σ 68 (gi σ 60 23).toNatClampNeg x1) 69 (gi σ 60 23).toNatClampNeg x2) 60 23 ((gi σ 60 23) + 1)) else none else none
set_option maxHeartbeats 1500000 in
theorem fX7_emit_ok (x1 : Int32) (x2 : Int32) (σ : Sg) (r : Sg) (hf : fX7_emit x1 x2 σ = some r) : Cl true 0 12098 [.ref 60, .int x1, .int x2] σ (.inl none, r) := by
  refine ⟨iX7_emit, rfl, Nat.le_of_ble_eq_true rfl, Nat.le_of_ble_eq_true rfl, ?_⟩
  show Go true 0 iX7_emit (0, [some (.ref 60), some (.int x1), some (.int x2)], [], σ) (.inl none, r)
  unfold fX7_emit at hf
  refine go_n 5 (f := (9, [some (.ref 60), some (.int x1), some (.int x2)], [.int x1, .int (gi σ 60 23), .ref 68], σ)) rfl ?_
  obtain ⟨h1, hf⟩ := grd hf
  refine go_iast rfl rfl rfl h1 ?_
  refine go_n 5 (f := (19, [some (.ref 60), some (.int x1), some (.int x2)], [.int x2, .int (gi σ 60 23), .ref 69], (wi σ 68 (gi σ 60 23).toNatClampNeg x1))) rfl ?_
  obtain ⟨h2, hf⟩ := grd hf
  refine go_iast rfl rfl rfl h2 ?_
  refine go_n 6 (f := (30, [some (.ref 60), some (.int x1), some (.int x2)], [], (wi (wi (wi σ 68 (gi σ 60 23).toNatClampNeg x1) 69 (gi σ 60 23).toNatClampNeg x2) 60 23 ((gi σ 60 23) + 1)))) rfl ?_
  cases hf
  exact go_r rfl
/-! OldWeatherModel.binds(I)I -/
def fX7_binds (x0 : Int32) : Option Int32 :=
  ((fun (z8 : Int32) => some z8) ((if x0 < 30 then (if x0 ≠ 19 then (if x0 ≠ 18 then (if x0 ≠ 17 then (if x0 ≠ 15 then (if x0 < 12 then (if x0 < 10 then 5 else 6) else 4) else 7) else 3) else 2) else 1) else 0) : Int32))
set_option maxHeartbeats 1500000 in
theorem fX7_binds_ok (x0 : Int32) (σ : Sg) (r : Int32) (hf : fX7_binds x0 = some r) : Cl true 0 12100 [.int x0] σ (.inl (some (.int r)), σ) := by
  refine ⟨iX7_binds, rfl, Nat.le_of_ble_eq_true rfl, Nat.le_of_ble_eq_true rfl, ?_⟩
  show Go true 0 iX7_binds (0, [some (.int x0)], [], σ) (.inl (some (.int r)), σ)
  unfold fX7_binds at hf
  refine go_n 2 (f := (3, [some (.int x0)], [.int 30, .int x0], σ)) rfl ?_
  refine go_m (f := (73, [none], [.int ((if x0 < 30 then (if x0 ≠ 19 then (if x0 ≠ 18 then (if x0 ≠ 17 then (if x0 ≠ 15 then (if x0 < 12 then (if x0 < 10 then 5 else 6) else 4) else 7) else 3) else 2) else 1) else 0) : Int32)], σ)) ?_ (fun hJ9 => ?_)
  · generalize hz8 : ((if x0 < 30 then (if x0 ≠ 19 then (if x0 ≠ 18 then (if x0 ≠ 17 then (if x0 ≠ 15 then (if x0 < 12 then (if x0 < 10 then 5 else 6) else 4) else 7) else 3) else 2) else 1) else 0) : Int32) = z8 at hf ⊢
    try dsimp only at hf
    cases hf
    exact go_r rfl
  · by_cases h1 : x0 < 30
    · refine go_it (t := 10) (f := 6) (L1 := [some (.int x0)]) (st1 := []) (σ1 := σ) rfl h1 ?_
      refine go_n 2 (f := (13, [some (.int x0)], [.int 19, .int x0], σ)) rfl ?_
      by_cases h2 : x0 ≠ 19
      · refine go_it (t := 20) (f := 16) (L1 := [some (.int x0)]) (st1 := []) (σ1 := σ) rfl h2 ?_
        refine go_n 2 (f := (23, [some (.int x0)], [.int 18, .int x0], σ)) rfl ?_
        by_cases h3 : x0 ≠ 18
        · refine go_it (t := 30) (f := 26) (L1 := [some (.int x0)]) (st1 := []) (σ1 := σ) rfl h3 ?_
          refine go_n 2 (f := (33, [some (.int x0)], [.int 17, .int x0], σ)) rfl ?_
          by_cases h4 : x0 ≠ 17
          · refine go_it (t := 40) (f := 36) (L1 := [some (.int x0)]) (st1 := []) (σ1 := σ) rfl h4 ?_
            refine go_n 2 (f := (43, [some (.int x0)], [.int 15, .int x0], σ)) rfl ?_
            by_cases h5 : x0 ≠ 15
            · refine go_it (t := 51) (f := 46) (L1 := [some (.int x0)]) (st1 := []) (σ1 := σ) rfl h5 ?_
              refine go_n 2 (f := (54, [some (.int x0)], [.int 12, .int x0], σ)) rfl ?_
              by_cases h6 : x0 < 12
              · refine go_it (t := 61) (f := 57) (L1 := [some (.int x0)]) (st1 := []) (σ1 := σ) rfl h6 ?_
                refine go_n 2 (f := (64, [some (.int x0)], [.int 10, .int x0], σ)) rfl ?_
                by_cases h7 : x0 < 10
                · refine go_it (t := 72) (f := 67) (L1 := [some (.int x0)]) (st1 := []) (σ1 := σ) rfl h7 ?_
                  refine go_n 1 (f := (73, [some (.int x0)], [.int 5], σ)) rfl ?_
                  refine go_e (L1 := [none]) rfl rfl ?_
                  simp only [if_pos h1, if_pos h2, if_pos h3, if_pos h4, if_pos h5, if_pos h6, if_pos h7] at hJ9
                  first | exact hJ9 | (simp only [if_pos h1, if_pos h2, if_pos h3, if_pos h4, if_pos h5, if_pos h6, if_pos h7]; exact hJ9)
                · refine go_if (t := 72) (f := 67) (L1 := [some (.int x0)]) (st1 := []) (σ1 := σ) rfl h7 ?_
                  refine go_n 2 (f := (73, [some (.int x0)], [.int 6], σ)) rfl ?_
                  refine go_e (L1 := [none]) rfl rfl ?_
                  simp only [if_pos h1, if_pos h2, if_pos h3, if_pos h4, if_pos h5, if_pos h6, if_neg h7] at hJ9
                  first | exact hJ9 | (simp only [if_pos h1, if_pos h2, if_pos h3, if_pos h4, if_pos h5, if_pos h6, if_neg h7]; exact hJ9)
              · refine go_if (t := 61) (f := 57) (L1 := [some (.int x0)]) (st1 := []) (σ1 := σ) rfl h6 ?_
                refine go_n 2 (f := (73, [some (.int x0)], [.int 4], σ)) rfl ?_
                refine go_e (L1 := [none]) rfl rfl ?_
                simp only [if_pos h1, if_pos h2, if_pos h3, if_pos h4, if_pos h5, if_neg h6] at hJ9
                first | exact hJ9 | (simp only [if_pos h1, if_pos h2, if_pos h3, if_pos h4, if_pos h5, if_neg h6]; exact hJ9)
            · refine go_if (t := 51) (f := 46) (L1 := [some (.int x0)]) (st1 := []) (σ1 := σ) rfl h5 ?_
              refine go_n 2 (f := (73, [some (.int x0)], [.int 7], σ)) rfl ?_
              refine go_e (L1 := [none]) rfl rfl ?_
              simp only [if_pos h1, if_pos h2, if_pos h3, if_pos h4, if_neg h5] at hJ9
              first | exact hJ9 | (simp only [if_pos h1, if_pos h2, if_pos h3, if_pos h4, if_neg h5]; exact hJ9)
          · refine go_if (t := 40) (f := 36) (L1 := [some (.int x0)]) (st1 := []) (σ1 := σ) rfl h4 ?_
            refine go_n 2 (f := (73, [some (.int x0)], [.int 3], σ)) rfl ?_
            refine go_e (L1 := [none]) rfl rfl ?_
            simp only [if_pos h1, if_pos h2, if_pos h3, if_neg h4] at hJ9
            first | exact hJ9 | (simp only [if_pos h1, if_pos h2, if_pos h3, if_neg h4]; exact hJ9)
        · refine go_if (t := 30) (f := 26) (L1 := [some (.int x0)]) (st1 := []) (σ1 := σ) rfl h3 ?_
          refine go_n 2 (f := (73, [some (.int x0)], [.int 2], σ)) rfl ?_
          refine go_e (L1 := [none]) rfl rfl ?_
          simp only [if_pos h1, if_pos h2, if_neg h3] at hJ9
          first | exact hJ9 | (simp only [if_pos h1, if_pos h2, if_neg h3]; exact hJ9)
      · refine go_if (t := 20) (f := 16) (L1 := [some (.int x0)]) (st1 := []) (σ1 := σ) rfl h2 ?_
        refine go_n 2 (f := (73, [some (.int x0)], [.int 1], σ)) rfl ?_
        refine go_e (L1 := [none]) rfl rfl ?_
        simp only [if_pos h1, if_neg h2] at hJ9
        first | exact hJ9 | (simp only [if_pos h1, if_neg h2]; exact hJ9)
    · refine go_if (t := 10) (f := 6) (L1 := [some (.int x0)]) (st1 := []) (σ1 := σ) rfl h1 ?_
      refine go_n 2 (f := (73, [some (.int x0)], [.int 0], σ)) rfl ?_
      refine go_e (L1 := [none]) rfl rfl ?_
      simp only [if_neg h1] at hJ9
      first | exact hJ9 | (simp only [if_neg h1]; exact hJ9)
/-! OldWeatherModel.inner()I -/
def fX7_inner_J33 (x2 : Int32) (s0 : Int32) (rec4 : (Int32 × Int32) → Option Int32) (σ : Sg) : Option Int32 :=
  rec4 (s0, (x2 + 1))
set_option maxHeartbeats 1500000 in
theorem fX7_inner_J33_ok (x2 : Int32) (s0 : Int32) (rec4 : (Int32 × Int32) → Option Int32) (σ : Sg) (hrec4 : ∀ (y1 : Int32) (y2 : Int32) (r : Int32), rec4 (y1, y2) = some r → Go true 0 iX7_inner (4, [some (.ref 60), some (.int y1), some (.int y2)], [], σ) (.inl (some (.int r)), σ)) (r : Int32) (hf : fX7_inner_J33 x2 s0 rec4 σ = some r) : Go true 0 iX7_inner (33, [some (.ref 60), none, some (.int x2)], [.int s0], σ) (.inl (some (.int r)), σ) := by
  unfold fX7_inner_J33 at hf
  refine go_n 2 (f := (37, [some (.ref 60), some (.int s0), some (.int (x2 + 1))], [], σ)) rfl ?_
  refine go_n 1 (f := (4, [some (.ref 60), some (.int s0), some (.int (x2 + 1))], [], σ)) rfl ?_
  exact hrec4 _ _ _ hf
def fX7_inner_L4  (σ : Sg)  (rec4 : (Int32 × Int32) → Option Int32) (s : Int32 × Int32) : Option Int32 :=
  match s with
  | (x1, x2) => if (gi σ 60 29) ≤ x2 then some x1 else if inb x2 400 then if (gi σ 70 x2.toNatClampNeg) < 30 then fX7_inner_J33 x2 x1 rec4 σ else if inb x2 400 then fX7_inner_J33 x2 (gi σ 70 x2.toNatClampNeg) rec4 σ else none else none
set_option maxHeartbeats 1500000 in
theorem fX7_inner_L4_ok  (σ : Sg)   : ∀ (n : Nat) (x1 : Int32) (x2 : Int32) (r : Int32), lp (fX7_inner_L4  σ ) n (x1, x2) = some r → Go true 0 iX7_inner (4, [some (.ref 60), some (.int x1), some (.int x2)], [], σ) (.inl (some (.int r)), σ) := by
  intro n
  induction n with
  | zero => intro x1 x2 r hf; cases hf
  | succ n ih =>
    intro x1 x2 r hf
    have hf : fX7_inner_L4  σ  (lp (fX7_inner_L4  σ ) n) (x1, x2) = some r := hf
    have hrec4 := ih
    generalize lp (fX7_inner_L4  σ ) n = rec4 at hf hrec4
    unfold fX7_inner_L4 at hf
    dsimp only at hf
    refine go_n 3 (f := (9, [some (.ref 60), some (.int x1), some (.int x2)], [.int (gi σ 60 29), .int x2], σ)) rfl ?_
    by_cases h1 : (gi σ 60 29) ≤ x2
    · rw [if_pos h1] at hf
      refine go_it (t := 40) (f := 12) (L1 := [some (.ref 60), some (.int x1), some (.int x2)]) (st1 := []) (σ1 := σ) rfl h1 ?_
      refine go_n 1 (f := (41, [some (.ref 60), some (.int x1), some (.int x2)], [.int x1], σ)) rfl ?_
      cases hf
      exact go_r rfl
    · rw [if_neg h1] at hf
      refine go_if (t := 40) (f := 12) (L1 := [some (.ref 60), some (.int x1), some (.int x2)]) (st1 := []) (σ1 := σ) rfl h1 ?_
      refine go_n 3 (f := (17, [some (.ref 60), some (.int x1), some (.int x2)], [.int x2, .ref 70], σ)) rfl ?_
      obtain ⟨h2, hf⟩ := grd hf
      refine go_iald rfl rfl rfl h2 ?_
      refine go_n 1 (f := (20, [some (.ref 60), some (.int x1), some (.int x2)], [.int 30, .int (gi σ 70 x2.toNatClampNeg)], σ)) rfl ?_
      by_cases h3 : (gi σ 70 x2.toNatClampNeg) < 30
      · rw [if_pos h3] at hf
        refine go_it (t := 32) (f := 23) (L1 := [some (.ref 60), some (.int x1), some (.int x2)]) (st1 := []) (σ1 := σ) rfl h3 ?_
        refine go_n 1 (f := (33, [some (.ref 60), some (.int x1), some (.int x2)], [.int x1], σ)) rfl ?_
        refine go_e (L1 := [some (.ref 60), none, some (.int x2)]) rfl rfl ?_
        exact fX7_inner_J33_ok _ _ _ _ hrec4 _ hf
      · rw [if_neg h3] at hf
        refine go_if (t := 32) (f := 23) (L1 := [some (.ref 60), some (.int x1), some (.int x2)]) (st1 := []) (σ1 := σ) rfl h3 ?_
        refine go_n 3 (f := (28, [some (.ref 60), some (.int x1), some (.int x2)], [.int x2, .ref 70], σ)) rfl ?_
        obtain ⟨h4, hf⟩ := grd hf
        refine go_iald rfl rfl rfl h4 ?_
        refine go_n 1 (f := (33, [some (.ref 60), some (.int x1), some (.int x2)], [.int (gi σ 70 x2.toNatClampNeg)], σ)) rfl ?_
        refine go_e (L1 := [some (.ref 60), none, some (.int x2)]) rfl rfl ?_
        exact fX7_inner_J33_ok _ _ _ _ hrec4 _ hf
def fX7_inner  (σ : Sg) : Option Int32 :=
  lp (fX7_inner_L4  σ ) N0 ((-1), 0)
set_option maxHeartbeats 1500000 in
theorem fX7_inner_ok  (σ : Sg) (r : Int32) (hf : fX7_inner  σ = some r) : Cl true 0 12102 [.ref 60] σ (.inl (some (.int r)), σ) := by
  refine ⟨iX7_inner, rfl, Nat.le_of_ble_eq_true rfl, Nat.le_of_ble_eq_true rfl, ?_⟩
  show Go true 0 iX7_inner (0, [some (.ref 60), none, none], [], σ) (.inl (some (.int r)), σ)
  unfold fX7_inner at hf
  refine go_n 4 (f := (4, [some (.ref 60), some (.int (-1)), some (.int 0)], [], σ)) rfl ?_
  exact fX7_inner_L4_ok  _   N0 _ _ _ hf
/-! OldWeatherModel.isCompared()Z -/
def fX7_isCompared_J36 (x1 : Int32)  (σ : Sg) : Option Int32 :=
  if x1 < 0 then some 0 else if inb x1 400 then (fX7_in (gi σ 70 x1.toNatClampNeg).toInt64 12 14).bind fun q4 => ((fun (z7 : Int32) => some z7) ((if q4 = 0 then 0 else 1) : Int32)) else none
set_option maxHeartbeats 1500000 in
theorem fX7_isCompared_J36_ok (x1 : Int32)  (σ : Sg)  (r : Int32) (hf : fX7_isCompared_J36 x1  σ = some r) : Go true 1 iX7_isCompared (36, [some (.ref 60), some (.int x1)], [], σ) (.inl (some (.int r)), σ) := by
  unfold fX7_isCompared_J36 at hf
  refine go_n 1 (f := (37, [some (.ref 60), some (.int x1)], [.int x1], σ)) rfl ?_
  by_cases h2 : x1 < 0
  · rw [if_pos h2] at hf
    refine go_it (t := 63) (f := 40) (L1 := [some (.ref 60), some (.int x1)]) (st1 := []) (σ1 := σ) rfl h2 ?_
    refine go_e (L1 := [none, none]) rfl rfl ?_
    refine go_n 1 (f := (64, [none, none], [.int 0], σ)) rfl ?_
    cases hf
    exact go_r rfl
  · rw [if_neg h2] at hf
    refine go_if (t := 63) (f := 40) (L1 := [some (.ref 60), some (.int x1)]) (st1 := []) (σ1 := σ) rfl h2 ?_
    refine go_n 3 (f := (45, [some (.ref 60), some (.int x1)], [.int x1, .ref 70], σ)) rfl ?_
    obtain ⟨h3, hf⟩ := grd hf
    refine go_iald rfl rfl rfl h3 ?_
    refine go_n 3 (f := (53, [some (.ref 60), some (.int x1)], [.long 14, .long 12, .long (gi σ 70 x1.toNatClampNeg).toInt64], σ)) rfl ?_
    obtain ⟨q4, h5, hf⟩ := bnd hf
    refine go_c (mid := 12034) (args := [.long (gi σ 70 x1.toNatClampNeg).toInt64, .long 12, .long 14]) (pc := 56) (L := [some (.ref 60), some (.int x1)]) (st := []) (σ := σ) rfl ((fX7_in_ok _ _ _ _ q4 h5).deep (Nat.le_of_ble_eq_true rfl)) ?_
    refine go_m (f := (64, [none, none], [.int ((if q4 = 0 then 0 else 1) : Int32)], σ)) ?_ (fun hJ8 => ?_)
    · generalize hz7 : ((if q4 = 0 then 0 else 1) : Int32) = z7 at hf ⊢
      have oz7 : am_ok 3 z7 = true := hz7 ▸ (okb rfl rfl)
      try dsimp only at hf
      cases hf
      exact go_ret rfl rfl (Or.inr (Or.inl ⟨rfl, oz7⟩))
    · by_cases h6 : q4 = 0
      · refine go_it (t := 63) (f := 59) (L1 := [some (.ref 60), some (.int x1)]) (st1 := []) (σ1 := σ) rfl h6 ?_
        refine go_e (L1 := [none, none]) rfl rfl ?_
        refine go_n 1 (f := (64, [none, none], [.int 0], σ)) rfl ?_
        refine go_e (L1 := [none, none]) rfl rfl ?_
        simp only [if_pos h6] at hJ8
        first | exact hJ8 | (simp only [if_pos h6]; exact hJ8)
      · refine go_if (t := 63) (f := 59) (L1 := [some (.ref 60), some (.int x1)]) (st1 := []) (σ1 := σ) rfl h6 ?_
        refine go_n 2 (f := (64, [some (.ref 60), some (.int x1)], [.int 1], σ)) rfl ?_
        refine go_e (L1 := [none, none]) rfl rfl ?_
        simp only [if_neg h6] at hJ8
        first | exact hJ8 | (simp only [if_neg h6]; exact hJ8)
def fX7_isCompared_L7  (σ : Sg)  (rec7 : Int32 → Option Int32) (x1 : Int32) : Option Int32 :=
  if x1 < 0 then fX7_isCompared_J36 x1  σ else if inb x1 400 then (fX7_in (gi σ 70 x1.toNatClampNeg).toInt64 8 11).bind fun q10 => if q10 = 0 then fX7_isCompared_J36 x1  σ else rec7 (x1 + (-1)) else none
set_option maxHeartbeats 1500000 in
theorem fX7_isCompared_L7_ok  (σ : Sg)   : ∀ (n : Nat) (x1 : Int32) (r : Int32), lp (fX7_isCompared_L7  σ ) n x1 = some r → Go true 1 iX7_isCompared (7, [some (.ref 60), some (.int x1)], [], σ) (.inl (some (.int r)), σ) := by
  intro n
  induction n with
  | zero => intro x1 r hf; cases hf
  | succ n ih =>
    intro x1 r hf
    have hf : fX7_isCompared_L7  σ  (lp (fX7_isCompared_L7  σ ) n) x1 = some r := hf
    have hrec7 := ih
    generalize lp (fX7_isCompared_L7  σ ) n = rec7 at hf hrec7
    unfold fX7_isCompared_L7 at hf
    refine go_n 1 (f := (8, [some (.ref 60), some (.int x1)], [.int x1], σ)) rfl ?_
    by_cases h1 : x1 < 0
    · rw [if_pos h1] at hf
      refine go_it (t := 36) (f := 11) (L1 := [some (.ref 60), some (.int x1)]) (st1 := []) (σ1 := σ) rfl h1 ?_
      exact fX7_isCompared_J36_ok _  _  _ hf
    · rw [if_neg h1] at hf
      refine go_if (t := 36) (f := 11) (L1 := [some (.ref 60), some (.int x1)]) (st1 := []) (σ1 := σ) rfl h1 ?_
      refine go_n 3 (f := (16, [some (.ref 60), some (.int x1)], [.int x1, .ref 70], σ)) rfl ?_
      obtain ⟨h9, hf⟩ := grd hf
      refine go_iald rfl rfl rfl h9 ?_
      refine go_n 3 (f := (24, [some (.ref 60), some (.int x1)], [.long 11, .long 8, .long (gi σ 70 x1.toNatClampNeg).toInt64], σ)) rfl ?_
      obtain ⟨q10, h11, hf⟩ := bnd hf
      refine go_c (mid := 12034) (args := [.long (gi σ 70 x1.toNatClampNeg).toInt64, .long 8, .long 11]) (pc := 27) (L := [some (.ref 60), some (.int x1)]) (st := []) (σ := σ) rfl ((fX7_in_ok _ _ _ _ q10 h11).deep (Nat.le_of_ble_eq_true rfl)) ?_
      by_cases h12 : q10 = 0
      · rw [if_pos h12] at hf
        refine go_it (t := 36) (f := 30) (L1 := [some (.ref 60), some (.int x1)]) (st1 := []) (σ1 := σ) rfl h12 ?_
        exact fX7_isCompared_J36_ok _  _  _ hf
      · rw [if_neg h12] at hf
        refine go_if (t := 36) (f := 30) (L1 := [some (.ref 60), some (.int x1)]) (st1 := []) (σ1 := σ) rfl h12 ?_
        refine go_n 2 (f := (7, [some (.ref 60), some (.int (x1 + (-1)))], [], σ)) rfl ?_
        exact hrec7 _ _ hf
def fX7_isCompared  (σ : Sg) : Option Int32 :=
  lp (fX7_isCompared_L7  σ ) N0 ((gi σ 60 29) - 1)
set_option maxHeartbeats 1500000 in
theorem fX7_isCompared_ok  (σ : Sg) (r : Int32) (hf : fX7_isCompared  σ = some r) : Cl true 1 12103 [.ref 60] σ (.inl (some (.int r)), σ) := by
  refine ⟨iX7_isCompared, rfl, Nat.le_of_ble_eq_true rfl, Nat.le_of_ble_eq_true rfl, ?_⟩
  show Go true 1 iX7_isCompared (0, [some (.ref 60), none], [], σ) (.inl (some (.int r)), σ)
  unfold fX7_isCompared at hf
  refine go_n 5 (f := (7, [some (.ref 60), some (.int ((gi σ 60 29) - 1))], [], σ)) rfl ?_
  exact fX7_isCompared_L7_ok  _   N0 _ _ hf
/-! OldWeatherModel.textAt(I)I -/
def fX7_textAt (x0 : Int32) : Option Int32 :=
  some (2328 + (946 * x0))
set_option maxHeartbeats 1500000 in
theorem fX7_textAt_ok (x0 : Int32) (σ : Sg) (r : Int32) (hf : fX7_textAt x0 = some r) : Cl true 0 12105 [.int x0] σ (.inl (some (.int r)), σ) := by
  refine ⟨iX7_textAt, rfl, Nat.le_of_ble_eq_true rfl, Nat.le_of_ble_eq_true rfl, ?_⟩
  show Go true 0 iX7_textAt (0, [some (.int x0)], [], σ) (.inl (some (.int r)), σ)
  unfold fX7_textAt at hf
  refine go_n 5 (f := (9, [some (.int x0)], [.int (2328 + (946 * x0))], σ)) rfl ?_
  cases hf
  exact go_r rfl
/-! OldWeatherModel.clauseAt(II)I -/
def fX7_clauseAt (x0 : Int32) (x1 : Int32) : Option Int32 :=
  (fX7_textAt x0).bind fun q1 => some ((q1 + 2) + (12 * x1))
set_option maxHeartbeats 1500000 in
theorem fX7_clauseAt_ok (x0 : Int32) (x1 : Int32) (σ : Sg) (r : Int32) (hf : fX7_clauseAt x0 x1 = some r) : Cl true 1 12109 [.int x0, .int x1] σ (.inl (some (.int r)), σ) := by
  refine ⟨iX7_clauseAt, rfl, Nat.le_of_ble_eq_true rfl, Nat.le_of_ble_eq_true rfl, ?_⟩
  show Go true 1 iX7_clauseAt (0, [some (.int x0), some (.int x1)], [], σ) (.inl (some (.int r)), σ)
  unfold fX7_clauseAt at hf
  refine go_n 1 (f := (1, [some (.int x0), some (.int x1)], [.int x0], σ)) rfl ?_
  obtain ⟨q1, h2, hf⟩ := bnd hf
  refine go_c (mid := 12105) (args := [.int x0]) (pc := 4) (L := [some (.int x0), some (.int x1)]) (st := []) (σ := σ) rfl ((fX7_textAt_ok _ _ q1 h2).deep (Nat.le_of_ble_eq_true rfl)) ?_
  refine go_n 6 (f := (11, [some (.int x0), some (.int x1)], [.int ((q1 + 2) + (12 * x1))], σ)) rfl ?_
  cases hf
  exact go_r rfl
/-! OldWeatherModel.lastOf(II)I -/
def fX7_lastOf_J103 (x1 : Int32) (x3 : Int32) (x4 : Int32) (rec5 : (Int32 × Int32) → Option Int32) (σ : Sg) : Option Int32 :=
  rec5 (x3, (x4 + 1))
set_option maxHeartbeats 1500000 in
theorem fX7_lastOf_J103_ok (x1 : Int32) (x3 : Int32) (x4 : Int32) (rec5 : (Int32 × Int32) → Option Int32) (σ : Sg) (hrec5 : ∀ (y3 : Int32) (y4 : Int32) (r : Int32), rec5 (y3, y4) = some r → Go true 2 iX7_lastOf (5, [some (.ref 60), some (.int x1), none, some (.int y3), some (.int y4), none], [], σ) (.inl (some (.int r)), σ)) (r : Int32) (hf : fX7_lastOf_J103 x1 x3 x4 rec5 σ = some r) : Go true 2 iX7_lastOf (103, [some (.ref 60), some (.int x1), none, some (.int x3), some (.int x4), none], [], σ) (.inl (some (.int r)), σ) := by
  unfold fX7_lastOf_J103 at hf
  refine go_n 2 (f := (5, [some (.ref 60), some (.int x1), none, some (.int x3), some (.int (x4 + 1)), none], [], σ)) rfl ?_
  exact hrec5 _ _ _ hf
def fX7_lastOf_J96 (x1 : Int32) (x4 : Int32) (x5 : Int32) (s0 : Int32) (rec5 : (Int32 × Int32) → Option Int32) (rec19 : (Int32 × Int32) → Option Int32) (σ : Sg) : Option Int32 :=
  rec19 (s0, (x5 + 1))
set_option maxHeartbeats 1500000 in
theorem fX7_lastOf_J96_ok (x1 : Int32) (x4 : Int32) (x5 : Int32) (s0 : Int32) (rec5 : (Int32 × Int32) → Option Int32) (rec19 : (Int32 × Int32) → Option Int32) (σ : Sg) (hrec5 : ∀ (y3 : Int32) (y4 : Int32) (r : Int32), rec5 (y3, y4) = some r → Go true 2 iX7_lastOf (5, [some (.ref 60), some (.int x1), none, some (.int y3), some (.int y4), none], [], σ) (.inl (some (.int r)), σ)) (hrec19 : ∀ (y3 : Int32) (y5 : Int32) (r : Int32), rec19 (y3, y5) = some r → Go true 2 iX7_lastOf (19, [some (.ref 60), some (.int x1), none, some (.int y3), some (.int x4), some (.int y5)], [], σ) (.inl (some (.int r)), σ)) (r : Int32) (hf : fX7_lastOf_J96 x1 x4 x5 s0 rec5 rec19 σ = some r) : Go true 2 iX7_lastOf (96, [some (.ref 60), some (.int x1), none, none, some (.int x4), some (.int x5)], [.int s0], σ) (.inl (some (.int r)), σ) := by
  unfold fX7_lastOf_J96 at hf
  refine go_n 2 (f := (100, [some (.ref 60), some (.int x1), none, some (.int s0), some (.int x4), some (.int (x5 + 1))], [], σ)) rfl ?_
  refine go_n 1 (f := (19, [some (.ref 60), some (.int x1), none, some (.int s0), some (.int x4), some (.int (x5 + 1))], [], σ)) rfl ?_
  exact hrec19 _ _ _ hf
def fX7_lastOf_J95 (x1 : Int32) (x3 : Int32) (x4 : Int32) (x5 : Int32) (rec5 : (Int32 × Int32) → Option Int32) (rec19 : (Int32 × Int32) → Option Int32) (σ : Sg) : Option Int32 :=
  fX7_lastOf_J96 x1 x4 x5 x3 rec5 rec19 σ
set_option maxHeartbeats 1500000 in
theorem fX7_lastOf_J95_ok (x1 : Int32) (x3 : Int32) (x4 : Int32) (x5 : Int32) (rec5 : (Int32 × Int32) → Option Int32) (rec19 : (Int32 × Int32) → Option Int32) (σ : Sg) (hrec5 : ∀ (y3 : Int32) (y4 : Int32) (r : Int32), rec5 (y3, y4) = some r → Go true 2 iX7_lastOf (5, [some (.ref 60), some (.int x1), none, some (.int y3), some (.int y4), none], [], σ) (.inl (some (.int r)), σ)) (hrec19 : ∀ (y3 : Int32) (y5 : Int32) (r : Int32), rec19 (y3, y5) = some r → Go true 2 iX7_lastOf (19, [some (.ref 60), some (.int x1), none, some (.int y3), some (.int x4), some (.int y5)], [], σ) (.inl (some (.int r)), σ)) (r : Int32) (hf : fX7_lastOf_J95 x1 x3 x4 x5 rec5 rec19 σ = some r) : Go true 2 iX7_lastOf (95, [some (.ref 60), some (.int x1), none, some (.int x3), some (.int x4), some (.int x5)], [], σ) (.inl (some (.int r)), σ) := by
  unfold fX7_lastOf_J95 at hf
  refine go_n 1 (f := (96, [some (.ref 60), some (.int x1), none, some (.int x3), some (.int x4), some (.int x5)], [.int x3], σ)) rfl ?_
  refine go_e (L1 := [some (.ref 60), some (.int x1), none, none, some (.int x4), some (.int x5)]) rfl rfl ?_
  exact fX7_lastOf_J96_ok _ _ _ _ _ _ _ hrec5 hrec19 _ hf
def fX7_lastOf_L19 (x1 : Int32) (x4 : Int32) (σ : Sg) (rec5 : (Int32 × Int32) → Option Int32) (rec19 : (Int32 × Int32) → Option Int32) (s : Int32 × Int32) : Option Int32 :=
  match s with
  | (x3, x5) => (fX7_textAt x4).bind fun q2 => if inb (q2 + 1) 39698 then if (gi σ 61 (q2 + 1).toNatClampNeg) ≤ x5 then fX7_lastOf_J103 x1 x3 x4 rec5 σ else if inb x4 20 then if (gi σ 73 x4.toNatClampNeg) = 0 then fX7_lastOf_J103 x1 x3 x4 rec5 σ else (fX7_clauseAt x4 x5).bind fun q8 => if inb q8 39698 then if (gi σ 61 q8.toNatClampNeg) ≠ x1 then fX7_lastOf_J95 x1 x3 x4 x5 rec5 rec19 σ else if inb ((12 * x4) + x5) 240 then if (gi σ 72 ((12 * x4) + x5).toNatClampNeg) ≠ 0 then fX7_lastOf_J95 x1 x3 x4 x5 rec5 rec19 σ else (fX7_clauseAt x4 x5).bind fun q14 => if inb (q14 + 1) 39698 then fX7_lastOf_J96 x1 x4 x5 (gi σ 61 (q14 + 1).toNatClampNeg) rec5 rec19 σ else none else none else none else none else none
set_option maxHeartbeats 1500000 in
theorem fX7_lastOf_L19_ok (x1 : Int32) (x4 : Int32) (σ : Sg) (rec5 : (Int32 × Int32) → Option Int32) (hrec5 : ∀ (y3 : Int32) (y4 : Int32) (r : Int32), rec5 (y3, y4) = some r → Go true 2 iX7_lastOf (5, [some (.ref 60), some (.int x1), none, some (.int y3), some (.int y4), none], [], σ) (.inl (some (.int r)), σ)) : ∀ (n : Nat) (x3 : Int32) (x5 : Int32) (r : Int32), lp (fX7_lastOf_L19 x1 x4 σ rec5) n (x3, x5) = some r → Go true 2 iX7_lastOf (19, [some (.ref 60), some (.int x1), none, some (.int x3), some (.int x4), some (.int x5)], [], σ) (.inl (some (.int r)), σ) := by
  intro n
  induction n with
  | zero => intro x3 x5 r hf; cases hf
  | succ n ih =>
    intro x3 x5 r hf
    have hf : fX7_lastOf_L19 x1 x4 σ rec5 (lp (fX7_lastOf_L19 x1 x4 σ rec5) n) (x3, x5) = some r := hf
    have hrec19 := ih
    generalize lp (fX7_lastOf_L19 x1 x4 σ rec5) n = rec19 at hf hrec19
    unfold fX7_lastOf_L19 at hf
    dsimp only at hf
    refine go_n 4 (f := (27, [some (.ref 60), some (.int x1), none, some (.int x3), some (.int x4), some (.int x5)], [.int x4, .ref 61, .int x5], σ)) rfl ?_
    obtain ⟨q2, h3, hf⟩ := bnd hf
    refine go_c (mid := 12105) (args := [.int x4]) (pc := 30) (L := [some (.ref 60), some (.int x1), none, some (.int x3), some (.int x4), some (.int x5)]) (st := [.ref 61, .int x5]) (σ := σ) rfl ((fX7_textAt_ok _ _ q2 h3).deep (Nat.le_of_ble_eq_true rfl)) ?_
    refine go_n 2 (f := (32, [some (.ref 60), some (.int x1), none, some (.int x3), some (.int x4), some (.int x5)], [.int (q2 + 1), .ref 61, .int x5], σ)) rfl ?_
    obtain ⟨h4, hf⟩ := grd hf
    refine go_iald rfl rfl rfl h4 ?_
    by_cases h5 : (gi σ 61 (q2 + 1).toNatClampNeg) ≤ x5
    · rw [if_pos h5] at hf
      refine go_it (t := 103) (f := 36) (L1 := [some (.ref 60), some (.int x1), none, some (.int x3), some (.int x4), some (.int x5)]) (st1 := []) (σ1 := σ) rfl h5 ?_
      refine go_e (L1 := [some (.ref 60), some (.int x1), none, some (.int x3), some (.int x4), none]) rfl rfl ?_
      exact fX7_lastOf_J103_ok _ _ _ _ _ hrec5 _ hf
    · rw [if_neg h5] at hf
      refine go_if (t := 103) (f := 36) (L1 := [some (.ref 60), some (.int x1), none, some (.int x3), some (.int x4), some (.int x5)]) (st1 := []) (σ1 := σ) rfl h5 ?_
      refine go_n 3 (f := (42, [some (.ref 60), some (.int x1), none, some (.int x3), some (.int x4), some (.int x5)], [.int x4, .ref 73], σ)) rfl ?_
      obtain ⟨h6, hf⟩ := grd hf
      refine go_bald rfl rfl (Or.inr rfl) h6 ?_
      by_cases h7 : (gi σ 73 x4.toNatClampNeg) = 0
      · rw [if_pos h7] at hf
        refine go_it (t := 103) (f := 46) (L1 := [some (.ref 60), some (.int x1), none, some (.int x3), some (.int x4), some (.int x5)]) (st1 := []) (σ1 := σ) rfl h7 ?_
        refine go_e (L1 := [some (.ref 60), some (.int x1), none, some (.int x3), some (.int x4), none]) rfl rfl ?_
        exact fX7_lastOf_J103_ok _ _ _ _ _ hrec5 _ hf
      · rw [if_neg h7] at hf
        refine go_if (t := 103) (f := 46) (L1 := [some (.ref 60), some (.int x1), none, some (.int x3), some (.int x4), some (.int x5)]) (st1 := []) (σ1 := σ) rfl h7 ?_
        refine go_n 4 (f := (54, [some (.ref 60), some (.int x1), none, some (.int x3), some (.int x4), some (.int x5)], [.int x5, .int x4, .ref 61], σ)) rfl ?_
        obtain ⟨q8, h9, hf⟩ := bnd hf
        refine go_c (mid := 12109) (args := [.int x4, .int x5]) (pc := 57) (L := [some (.ref 60), some (.int x1), none, some (.int x3), some (.int x4), some (.int x5)]) (st := [.ref 61]) (σ := σ) rfl ((fX7_clauseAt_ok _ _ _ q8 h9).deep (Nat.le_of_ble_eq_true rfl)) ?_
        obtain ⟨h10, hf⟩ := grd hf
        refine go_iald rfl rfl rfl h10 ?_
        refine go_n 1 (f := (59, [some (.ref 60), some (.int x1), none, some (.int x3), some (.int x4), some (.int x5)], [.int x1, .int (gi σ 61 q8.toNatClampNeg)], σ)) rfl ?_
        by_cases h11 : (gi σ 61 q8.toNatClampNeg) ≠ x1
        · rw [if_pos h11] at hf
          refine go_it (t := 95) (f := 62) (L1 := [some (.ref 60), some (.int x1), none, some (.int x3), some (.int x4), some (.int x5)]) (st1 := []) (σ1 := σ) rfl h11 ?_
          exact fX7_lastOf_J95_ok _ _ _ _ _ _ _ hrec5 hrec19 _ hf
        · rw [if_neg h11] at hf
          refine go_if (t := 95) (f := 62) (L1 := [some (.ref 60), some (.int x1), none, some (.int x3), some (.int x4), some (.int x5)]) (st1 := []) (σ1 := σ) rfl h11 ?_
          refine go_n 7 (f := (74, [some (.ref 60), some (.int x1), none, some (.int x3), some (.int x4), some (.int x5)], [.int ((12 * x4) + x5), .ref 72], σ)) rfl ?_
          obtain ⟨h12, hf⟩ := grd hf
          refine go_bald rfl rfl (Or.inr rfl) h12 ?_
          by_cases h13 : (gi σ 72 ((12 * x4) + x5).toNatClampNeg) ≠ 0
          · rw [if_pos h13] at hf
            refine go_it (t := 95) (f := 78) (L1 := [some (.ref 60), some (.int x1), none, some (.int x3), some (.int x4), some (.int x5)]) (st1 := []) (σ1 := σ) rfl h13 ?_
            exact fX7_lastOf_J95_ok _ _ _ _ _ _ _ hrec5 hrec19 _ hf
          · rw [if_neg h13] at hf
            refine go_if (t := 95) (f := 78) (L1 := [some (.ref 60), some (.int x1), none, some (.int x3), some (.int x4), some (.int x5)]) (st1 := []) (σ1 := σ) rfl h13 ?_
            refine go_n 4 (f := (86, [some (.ref 60), some (.int x1), none, some (.int x3), some (.int x4), some (.int x5)], [.int x5, .int x4, .ref 61], σ)) rfl ?_
            obtain ⟨q14, h15, hf⟩ := bnd hf
            refine go_c (mid := 12109) (args := [.int x4, .int x5]) (pc := 89) (L := [some (.ref 60), some (.int x1), none, some (.int x3), some (.int x4), some (.int x5)]) (st := [.ref 61]) (σ := σ) rfl ((fX7_clauseAt_ok _ _ _ q14 h15).deep (Nat.le_of_ble_eq_true rfl)) ?_
            refine go_n 2 (f := (91, [some (.ref 60), some (.int x1), none, some (.int x3), some (.int x4), some (.int x5)], [.int (q14 + 1), .ref 61], σ)) rfl ?_
            obtain ⟨h16, hf⟩ := grd hf
            refine go_iald rfl rfl rfl h16 ?_
            refine go_n 1 (f := (96, [some (.ref 60), some (.int x1), none, some (.int x3), some (.int x4), some (.int x5)], [.int (gi σ 61 (q14 + 1).toNatClampNeg)], σ)) rfl ?_
            refine go_e (L1 := [some (.ref 60), some (.int x1), none, none, some (.int x4), some (.int x5)]) rfl rfl ?_
            exact fX7_lastOf_J96_ok _ _ _ _ _ _ _ hrec5 hrec19 _ hf
def fX7_lastOf_L5 (x1 : Int32) (σ : Sg)  (rec5 : (Int32 × Int32) → Option Int32) (s : Int32 × Int32) : Option Int32 :=
  match s with
  | (x3, x4) => if (gi σ 61 3) ≤ x4 then some x3 else lp (fX7_lastOf_L19 x1 x4 σ rec5) N0 (x3, 0)
set_option maxHeartbeats 1500000 in
theorem fX7_lastOf_L5_ok (x1 : Int32) (σ : Sg)   : ∀ (n : Nat) (x3 : Int32) (x4 : Int32) (r : Int32), lp (fX7_lastOf_L5 x1 σ ) n (x3, x4) = some r → Go true 2 iX7_lastOf (5, [some (.ref 60), some (.int x1), none, some (.int x3), some (.int x4), none], [], σ) (.inl (some (.int r)), σ) := by
  intro n
  induction n with
  | zero => intro x3 x4 r hf; cases hf
  | succ n ih =>
    intro x3 x4 r hf
    have hf : fX7_lastOf_L5 x1 σ  (lp (fX7_lastOf_L5 x1 σ ) n) (x3, x4) = some r := hf
    have hrec5 := ih
    generalize lp (fX7_lastOf_L5 x1 σ ) n = rec5 at hf hrec5
    unfold fX7_lastOf_L5 at hf
    dsimp only at hf
    refine go_n 5 (f := (13, [some (.ref 60), some (.int x1), none, some (.int x3), some (.int x4), none], [.int (gi σ 61 3), .int x4], σ)) rfl ?_
    by_cases h1 : (gi σ 61 3) ≤ x4
    · rw [if_pos h1] at hf
      refine go_it (t := 109) (f := 16) (L1 := [some (.ref 60), some (.int x1), none, some (.int x3), some (.int x4), none]) (st1 := []) (σ1 := σ) rfl h1 ?_
      refine go_n 1 (f := (110, [some (.ref 60), some (.int x1), none, some (.int x3), some (.int x4), none], [.int x3], σ)) rfl ?_
      cases hf
      exact go_r rfl
    · rw [if_neg h1] at hf
      refine go_if (t := 109) (f := 16) (L1 := [some (.ref 60), some (.int x1), none, some (.int x3), some (.int x4), none]) (st1 := []) (σ1 := σ) rfl h1 ?_
      refine go_n 2 (f := (19, [some (.ref 60), some (.int x1), none, some (.int x3), some (.int x4), some (.int 0)], [], σ)) rfl ?_
      exact fX7_lastOf_L19_ok _ _ _ _ hrec5 N0 _ _ _ hf
def fX7_lastOf (x1 : Int32) (x2 : Int32) (σ : Sg) : Option Int32 :=
  lp (fX7_lastOf_L5 x1 σ ) N0 (x2, 0)
set_option maxHeartbeats 1500000 in
theorem fX7_lastOf_ok (x1 : Int32) (x2 : Int32) (σ : Sg) (r : Int32) (hf : fX7_lastOf x1 x2 σ = some r) : Cl true 2 12111 [.ref 60, .int x1, .int x2] σ (.inl (some (.int r)), σ) := by
  refine ⟨iX7_lastOf, rfl, Nat.le_of_ble_eq_true rfl, Nat.le_of_ble_eq_true rfl, ?_⟩
  show Go true 2 iX7_lastOf (0, [some (.ref 60), some (.int x1), some (.int x2), none, none, none], [], σ) (.inl (some (.int r)), σ)
  unfold fX7_lastOf at hf
  refine go_n 4 (f := (5, [some (.ref 60), some (.int x1), some (.int x2), some (.int x2), some (.int 0), none], [], σ)) rfl ?_
  refine go_e (L1 := [some (.ref 60), some (.int x1), none, some (.int x2), some (.int 0), none]) rfl rfl ?_
  exact fX7_lastOf_L5_ok _ _   N0 _ _ _ hf
/-! OldWeatherModel.shared(II)I -/
def fX7_shared_J108 (x1 : Int32) (x2 : Int32) (x4 : Int32) (s0 : Int32) (s1 : Int32) (rec5 : (Int32 × Int32) → Option Int32) (σ : Sg) : Option Int32 :=
  rec5 ((s1 + s0), (x4 + 1))
set_option maxHeartbeats 1500000 in
theorem fX7_shared_J108_ok (x1 : Int32) (x2 : Int32) (x4 : Int32) (s0 : Int32) (s1 : Int32) (rec5 : (Int32 × Int32) → Option Int32) (σ : Sg) (hrec5 : ∀ (y3 : Int32) (y4 : Int32) (r : Int32), rec5 (y3, y4) = some r → Go true 0 iX7_shared (5, [some (.ref 60), some (.int x1), some (.int x2), some (.int y3), some (.int y4), none, none], [], σ) (.inl (some (.int r)), σ)) (r : Int32) (hf : fX7_shared_J108 x1 x2 x4 s0 s1 rec5 σ = some r) : Go true 0 iX7_shared (108, [some (.ref 60), some (.int x1), some (.int x2), none, some (.int x4), none, none], [.int s0, .int s1], σ) (.inl (some (.int r)), σ) := by
  unfold fX7_shared_J108 at hf
  refine go_n 3 (f := (113, [some (.ref 60), some (.int x1), some (.int x2), some (.int (s1 + s0)), some (.int (x4 + 1)), none, none], [], σ)) rfl ?_
  refine go_n 1 (f := (5, [some (.ref 60), some (.int x1), some (.int x2), some (.int (s1 + s0)), some (.int (x4 + 1)), none, none], [], σ)) rfl ?_
  exact hrec5 _ _ _ hf
def fX7_shared_J107 (x1 : Int32) (x2 : Int32) (x4 : Int32) (s0 : Int32) (rec5 : (Int32 × Int32) → Option Int32) (σ : Sg) : Option Int32 :=
  fX7_shared_J108 x1 x2 x4 0 s0 rec5 σ
set_option maxHeartbeats 1500000 in
theorem fX7_shared_J107_ok (x1 : Int32) (x2 : Int32) (x4 : Int32) (s0 : Int32) (rec5 : (Int32 × Int32) → Option Int32) (σ : Sg) (hrec5 : ∀ (y3 : Int32) (y4 : Int32) (r : Int32), rec5 (y3, y4) = some r → Go true 0 iX7_shared (5, [some (.ref 60), some (.int x1), some (.int x2), some (.int y3), some (.int y4), none, none], [], σ) (.inl (some (.int r)), σ)) (r : Int32) (hf : fX7_shared_J107 x1 x2 x4 s0 rec5 σ = some r) : Go true 0 iX7_shared (107, [some (.ref 60), some (.int x1), some (.int x2), none, some (.int x4), none, none], [.int s0], σ) (.inl (some (.int r)), σ) := by
  unfold fX7_shared_J107 at hf
  refine go_n 1 (f := (108, [some (.ref 60), some (.int x1), some (.int x2), none, some (.int x4), none, none], [.int 0, .int s0], σ)) rfl ?_
  exact fX7_shared_J108_ok _ _ _ _ _ _ _ hrec5 _ hf
def fX7_shared_J79 (x1 : Int32) (x2 : Int32) (x3 : Int32) (x4 : Int32) (x5 : Int32) (s0 : Int32) (rec5 : (Int32 × Int32) → Option Int32) (σ : Sg) : Option Int32 :=
  if s0 = 0 then fX7_shared_J107 x1 x2 x4 x3 rec5 σ else if inb (x5 + 2) 39698 then ((fun (z9 : Int32) => rec5 ((x3 + z9), (x4 + 1))) ((if (gi σ 60 31) < (gi σ 61 (x5 + 2).toNatClampNeg) then 0 else 1) : Int32)) else none
set_option maxHeartbeats 1500000 in
theorem fX7_shared_J79_ok (x1 : Int32) (x2 : Int32) (x3 : Int32) (x4 : Int32) (x5 : Int32) (s0 : Int32) (rec5 : (Int32 × Int32) → Option Int32) (σ : Sg) (hrec5 : ∀ (y3 : Int32) (y4 : Int32) (r : Int32), rec5 (y3, y4) = some r → Go true 0 iX7_shared (5, [some (.ref 60), some (.int x1), some (.int x2), some (.int y3), some (.int y4), none, none], [], σ) (.inl (some (.int r)), σ)) (r : Int32) (hf : fX7_shared_J79 x1 x2 x3 x4 x5 s0 rec5 σ = some r) : Go true 0 iX7_shared (79, [some (.ref 60), some (.int x1), some (.int x2), some (.int x3), some (.int x4), some (.int x5), none], [.int s0], σ) (.inl (some (.int r)), σ) := by
  unfold fX7_shared_J79 at hf
  refine go_n 3 (f := (84, [some (.ref 60), some (.int x1), some (.int x2), some (.int x3), some (.int x4), some (.int x5), some (.int s0)], [.int s0, .int x3], σ)) rfl ?_
  by_cases h6 : s0 = 0
  · rw [if_pos h6] at hf
    refine go_it (t := 107) (f := 87) (L1 := [some (.ref 60), some (.int x1), some (.int x2), some (.int x3), some (.int x4), some (.int x5), some (.int s0)]) (st1 := [.int x3]) (σ1 := σ) rfl h6 ?_
    refine go_e (L1 := [some (.ref 60), some (.int x1), some (.int x2), none, some (.int x4), none, none]) rfl rfl ?_
    exact fX7_shared_J107_ok _ _ _ _ _ _ hrec5 _ hf
  · rw [if_neg h6] at hf
    refine go_if (t := 107) (f := 87) (L1 := [some (.ref 60), some (.int x1), some (.int x2), some (.int x3), some (.int x4), some (.int x5), some (.int s0)]) (st1 := [.int x3]) (σ1 := σ) rfl h6 ?_
    refine go_n 5 (f := (95, [some (.ref 60), some (.int x1), some (.int x2), some (.int x3), some (.int x4), some (.int x5), some (.int s0)], [.int (x5 + 2), .ref 61, .int x3], σ)) rfl ?_
    obtain ⟨h7, hf⟩ := grd hf
    refine go_iald rfl rfl rfl h7 ?_
    refine go_n 2 (f := (100, [some (.ref 60), some (.int x1), some (.int x2), some (.int x3), some (.int x4), some (.int x5), some (.int s0)], [.int (gi σ 60 31), .int (gi σ 61 (x5 + 2).toNatClampNeg), .int x3], σ)) rfl ?_
    refine go_m (f := (108, [some (.ref 60), some (.int x1), some (.int x2), none, some (.int x4), none, none], [.int ((if (gi σ 60 31) < (gi σ 61 (x5 + 2).toNatClampNeg) then 0 else 1) : Int32), .int x3], σ)) ?_ (fun hJ10 => ?_)
    · generalize hz9 : ((if (gi σ 60 31) < (gi σ 61 (x5 + 2).toNatClampNeg) then 0 else 1) : Int32) = z9 at hf ⊢
      have oz9 : am_ok 3 z9 = true := hz9 ▸ (okb rfl rfl)
      try dsimp only at hf
      refine go_n 3 (f := (113, [some (.ref 60), some (.int x1), some (.int x2), some (.int (x3 + z9)), some (.int (x4 + 1)), none, none], [], σ)) rfl ?_
      refine go_n 1 (f := (5, [some (.ref 60), some (.int x1), some (.int x2), some (.int (x3 + z9)), some (.int (x4 + 1)), none, none], [], σ)) rfl ?_
      exact hrec5 _ _ _ hf
    · by_cases h8 : (gi σ 60 31) < (gi σ 61 (x5 + 2).toNatClampNeg)
      · refine go_it (t := 107) (f := 103) (L1 := [some (.ref 60), some (.int x1), some (.int x2), some (.int x3), some (.int x4), some (.int x5), some (.int s0)]) (st1 := [.int x3]) (σ1 := σ) rfl h8 ?_
        refine go_e (L1 := [some (.ref 60), some (.int x1), some (.int x2), none, some (.int x4), none, none]) rfl rfl ?_
        refine go_n 1 (f := (108, [some (.ref 60), some (.int x1), some (.int x2), none, some (.int x4), none, none], [.int 0, .int x3], σ)) rfl ?_
        refine go_e (L1 := [some (.ref 60), some (.int x1), some (.int x2), none, some (.int x4), none, none]) rfl rfl ?_
        simp only [if_pos h8] at hJ10
        first | exact hJ10 | (simp only [if_pos h8]; exact hJ10)
      · refine go_if (t := 107) (f := 103) (L1 := [some (.ref 60), some (.int x1), some (.int x2), some (.int x3), some (.int x4), some (.int x5), some (.int s0)]) (st1 := [.int x3]) (σ1 := σ) rfl h8 ?_
        refine go_n 2 (f := (108, [some (.ref 60), some (.int x1), some (.int x2), some (.int x3), some (.int x4), some (.int x5), some (.int s0)], [.int 1, .int x3], σ)) rfl ?_
        refine go_e (L1 := [some (.ref 60), some (.int x1), some (.int x2), none, some (.int x4), none, none]) rfl rfl ?_
        simp only [if_neg h8] at hJ10
        first | exact hJ10 | (simp only [if_neg h8]; exact hJ10)
def fX7_shared_J78 (x1 : Int32) (x2 : Int32) (x3 : Int32) (x4 : Int32) (x5 : Int32) (rec5 : (Int32 × Int32) → Option Int32) (σ : Sg) : Option Int32 :=
  fX7_shared_J79 x1 x2 x3 x4 x5 0 rec5 σ
set_option maxHeartbeats 1500000 in
theorem fX7_shared_J78_ok (x1 : Int32) (x2 : Int32) (x3 : Int32) (x4 : Int32) (x5 : Int32) (rec5 : (Int32 × Int32) → Option Int32) (σ : Sg) (hrec5 : ∀ (y3 : Int32) (y4 : Int32) (r : Int32), rec5 (y3, y4) = some r → Go true 0 iX7_shared (5, [some (.ref 60), some (.int x1), some (.int x2), some (.int y3), some (.int y4), none, none], [], σ) (.inl (some (.int r)), σ)) (r : Int32) (hf : fX7_shared_J78 x1 x2 x3 x4 x5 rec5 σ = some r) : Go true 0 iX7_shared (78, [some (.ref 60), some (.int x1), some (.int x2), some (.int x3), some (.int x4), some (.int x5), none], [], σ) (.inl (some (.int r)), σ) := by
  unfold fX7_shared_J78 at hf
  refine go_n 1 (f := (79, [some (.ref 60), some (.int x1), some (.int x2), some (.int x3), some (.int x4), some (.int x5), none], [.int 0], σ)) rfl ?_
  exact fX7_shared_J79_ok _ _ _ _ _ _ _ _ hrec5 _ hf
def fX7_shared_J50 (x1 : Int32) (x2 : Int32) (x3 : Int32) (x4 : Int32) (x5 : Int32) (rec5 : (Int32 × Int32) → Option Int32) (σ : Sg) : Option Int32 :=
  if inb x5 39698 then if (gi σ 61 x5.toNatClampNeg) ≠ x2 then fX7_shared_J78 x1 x2 x3 x4 x5 rec5 σ else if inb (x5 + 1) 39698 then ((fun (z13 : Int32) => if z13 = 0 then fX7_shared_J107 x1 x2 x4 x3 rec5 σ else if inb (x5 + 2) 39698 then ((fun (z17 : Int32) => rec5 ((x3 + z17), (x4 + 1))) ((if (gi σ 60 31) < (gi σ 61 (x5 + 2).toNatClampNeg) then 0 else 1) : Int32)) else none) ((if (gi σ 61 (x5 + 1).toNatClampNeg) ≠ x1 then 0 else 1) : Int32)) else none else none
set_option maxHeartbeats 1500000 in
theorem fX7_shared_J50_ok (x1 : Int32) (x2 : Int32) (x3 : Int32) (x4 : Int32) (x5 : Int32) (rec5 : (Int32 × Int32) → Option Int32) (σ : Sg) (hrec5 : ∀ (y3 : Int32) (y4 : Int32) (r : Int32), rec5 (y3, y4) = some r → Go true 0 iX7_shared (5, [some (.ref 60), some (.int x1), some (.int x2), some (.int y3), some (.int y4), none, none], [], σ) (.inl (some (.int r)), σ)) (r : Int32) (hf : fX7_shared_J50 x1 x2 x3 x4 x5 rec5 σ = some r) : Go true 0 iX7_shared (50, [some (.ref 60), some (.int x1), some (.int x2), some (.int x3), some (.int x4), some (.int x5), none], [], σ) (.inl (some (.int r)), σ) := by
  unfold fX7_shared_J50 at hf
  refine go_n 3 (f := (56, [some (.ref 60), some (.int x1), some (.int x2), some (.int x3), some (.int x4), some (.int x5), none], [.int x5, .ref 61], σ)) rfl ?_
  obtain ⟨h4, hf⟩ := grd hf
  refine go_iald rfl rfl rfl h4 ?_
  refine go_n 1 (f := (58, [some (.ref 60), some (.int x1), some (.int x2), some (.int x3), some (.int x4), some (.int x5), none], [.int x2, .int (gi σ 61 x5.toNatClampNeg)], σ)) rfl ?_
  by_cases h5 : (gi σ 61 x5.toNatClampNeg) ≠ x2
  · rw [if_pos h5] at hf
    refine go_it (t := 78) (f := 61) (L1 := [some (.ref 60), some (.int x1), some (.int x2), some (.int x3), some (.int x4), some (.int x5), none]) (st1 := []) (σ1 := σ) rfl h5 ?_
    exact fX7_shared_J78_ok _ _ _ _ _ _ _ hrec5 _ hf
  · rw [if_neg h5] at hf
    refine go_if (t := 78) (f := 61) (L1 := [some (.ref 60), some (.int x1), some (.int x2), some (.int x3), some (.int x4), some (.int x5), none]) (st1 := []) (σ1 := σ) rfl h5 ?_
    refine go_n 5 (f := (69, [some (.ref 60), some (.int x1), some (.int x2), some (.int x3), some (.int x4), some (.int x5), none], [.int (x5 + 1), .ref 61], σ)) rfl ?_
    obtain ⟨h11, hf⟩ := grd hf
    refine go_iald rfl rfl rfl h11 ?_
    refine go_n 1 (f := (71, [some (.ref 60), some (.int x1), some (.int x2), some (.int x3), some (.int x4), some (.int x5), none], [.int x1, .int (gi σ 61 (x5 + 1).toNatClampNeg)], σ)) rfl ?_
    refine go_m (f := (79, [some (.ref 60), some (.int x1), some (.int x2), some (.int x3), some (.int x4), some (.int x5), none], [.int ((if (gi σ 61 (x5 + 1).toNatClampNeg) ≠ x1 then 0 else 1) : Int32)], σ)) ?_ (fun hJ19 => ?_)
    · generalize hz13 : ((if (gi σ 61 (x5 + 1).toNatClampNeg) ≠ x1 then 0 else 1) : Int32) = z13 at hf ⊢
      have oz13 : am_ok 3 z13 = true := hz13 ▸ (okb rfl rfl)
      try dsimp only at hf
      refine go_n 3 (f := (84, [some (.ref 60), some (.int x1), some (.int x2), some (.int x3), some (.int x4), some (.int x5), some (.int z13)], [.int z13, .int x3], σ)) rfl ?_
      by_cases h14 : z13 = 0
      · rw [if_pos h14] at hf
        refine go_it (t := 107) (f := 87) (L1 := [some (.ref 60), some (.int x1), some (.int x2), some (.int x3), some (.int x4), some (.int x5), some (.int z13)]) (st1 := [.int x3]) (σ1 := σ) rfl h14 ?_
        refine go_e (L1 := [some (.ref 60), some (.int x1), some (.int x2), none, some (.int x4), none, none]) rfl rfl ?_
        exact fX7_shared_J107_ok _ _ _ _ _ _ hrec5 _ hf
      · rw [if_neg h14] at hf
        refine go_if (t := 107) (f := 87) (L1 := [some (.ref 60), some (.int x1), some (.int x2), some (.int x3), some (.int x4), some (.int x5), some (.int z13)]) (st1 := [.int x3]) (σ1 := σ) rfl h14 ?_
        refine go_n 5 (f := (95, [some (.ref 60), some (.int x1), some (.int x2), some (.int x3), some (.int x4), some (.int x5), some (.int z13)], [.int (x5 + 2), .ref 61, .int x3], σ)) rfl ?_
        obtain ⟨h15, hf⟩ := grd hf
        refine go_iald rfl rfl rfl h15 ?_
        refine go_n 2 (f := (100, [some (.ref 60), some (.int x1), some (.int x2), some (.int x3), some (.int x4), some (.int x5), some (.int z13)], [.int (gi σ 60 31), .int (gi σ 61 (x5 + 2).toNatClampNeg), .int x3], σ)) rfl ?_
        refine go_m (f := (108, [some (.ref 60), some (.int x1), some (.int x2), none, some (.int x4), none, none], [.int ((if (gi σ 60 31) < (gi σ 61 (x5 + 2).toNatClampNeg) then 0 else 1) : Int32), .int x3], σ)) ?_ (fun hJ18 => ?_)
        · generalize hz17 : ((if (gi σ 60 31) < (gi σ 61 (x5 + 2).toNatClampNeg) then 0 else 1) : Int32) = z17 at hf ⊢
          have oz17 : am_ok 3 z17 = true := hz17 ▸ (okb rfl rfl)
          try dsimp only at hf
          refine go_n 3 (f := (113, [some (.ref 60), some (.int x1), some (.int x2), some (.int (x3 + z17)), some (.int (x4 + 1)), none, none], [], σ)) rfl ?_
          refine go_n 1 (f := (5, [some (.ref 60), some (.int x1), some (.int x2), some (.int (x3 + z17)), some (.int (x4 + 1)), none, none], [], σ)) rfl ?_
          exact hrec5 _ _ _ hf
        · by_cases h16 : (gi σ 60 31) < (gi σ 61 (x5 + 2).toNatClampNeg)
          · refine go_it (t := 107) (f := 103) (L1 := [some (.ref 60), some (.int x1), some (.int x2), some (.int x3), some (.int x4), some (.int x5), some (.int z13)]) (st1 := [.int x3]) (σ1 := σ) rfl h16 ?_
            refine go_e (L1 := [some (.ref 60), some (.int x1), some (.int x2), none, some (.int x4), none, none]) rfl rfl ?_
            refine go_n 1 (f := (108, [some (.ref 60), some (.int x1), some (.int x2), none, some (.int x4), none, none], [.int 0, .int x3], σ)) rfl ?_
            refine go_e (L1 := [some (.ref 60), some (.int x1), some (.int x2), none, some (.int x4), none, none]) rfl rfl ?_
            simp only [if_pos h16] at hJ18
            first | exact hJ18 | (simp only [if_pos h16]; exact hJ18)
          · refine go_if (t := 107) (f := 103) (L1 := [some (.ref 60), some (.int x1), some (.int x2), some (.int x3), some (.int x4), some (.int x5), some (.int z13)]) (st1 := [.int x3]) (σ1 := σ) rfl h16 ?_
            refine go_n 2 (f := (108, [some (.ref 60), some (.int x1), some (.int x2), some (.int x3), some (.int x4), some (.int x5), some (.int z13)], [.int 1, .int x3], σ)) rfl ?_
            refine go_e (L1 := [some (.ref 60), some (.int x1), some (.int x2), none, some (.int x4), none, none]) rfl rfl ?_
            simp only [if_neg h16] at hJ18
            first | exact hJ18 | (simp only [if_neg h16]; exact hJ18)
    · by_cases h12 : (gi σ 61 (x5 + 1).toNatClampNeg) ≠ x1
      · refine go_it (t := 78) (f := 74) (L1 := [some (.ref 60), some (.int x1), some (.int x2), some (.int x3), some (.int x4), some (.int x5), none]) (st1 := []) (σ1 := σ) rfl h12 ?_
        refine go_n 1 (f := (79, [some (.ref 60), some (.int x1), some (.int x2), some (.int x3), some (.int x4), some (.int x5), none], [.int 0], σ)) rfl ?_
        refine go_e (L1 := [some (.ref 60), some (.int x1), some (.int x2), some (.int x3), some (.int x4), some (.int x5), none]) rfl rfl ?_
        simp only [if_pos h12] at hJ19
        first | exact hJ19 | (simp only [if_pos h12]; exact hJ19)
      · refine go_if (t := 78) (f := 74) (L1 := [some (.ref 60), some (.int x1), some (.int x2), some (.int x3), some (.int x4), some (.int x5), none]) (st1 := []) (σ1 := σ) rfl h12 ?_
        refine go_n 2 (f := (79, [some (.ref 60), some (.int x1), some (.int x2), some (.int x3), some (.int x4), some (.int x5), none], [.int 1], σ)) rfl ?_
        refine go_e (L1 := [some (.ref 60), some (.int x1), some (.int x2), some (.int x3), some (.int x4), some (.int x5), none]) rfl rfl ?_
        simp only [if_neg h12] at hJ19
        first | exact hJ19 | (simp only [if_neg h12]; exact hJ19)
def fX7_shared_J74 (x1 : Int32) (x2 : Int32) (x3 : Int32) (x4 : Int32) (x5 : Int32) (rec5 : (Int32 × Int32) → Option Int32) (σ : Sg) : Option Int32 :=
  fX7_shared_J79 x1 x2 x3 x4 x5 1 rec5 σ
set_option maxHeartbeats 1500000 in
theorem fX7_shared_J74_ok (x1 : Int32) (x2 : Int32) (x3 : Int32) (x4 : Int32) (x5 : Int32) (rec5 : (Int32 × Int32) → Option Int32) (σ : Sg) (hrec5 : ∀ (y3 : Int32) (y4 : Int32) (r : Int32), rec5 (y3, y4) = some r → Go true 0 iX7_shared (5, [some (.ref 60), some (.int x1), some (.int x2), some (.int y3), some (.int y4), none, none], [], σ) (.inl (some (.int r)), σ)) (r : Int32) (hf : fX7_shared_J74 x1 x2 x3 x4 x5 rec5 σ = some r) : Go true 0 iX7_shared (74, [some (.ref 60), some (.int x1), some (.int x2), some (.int x3), some (.int x4), some (.int x5), none], [], σ) (.inl (some (.int r)), σ) := by
  unfold fX7_shared_J74 at hf
  refine go_n 2 (f := (79, [some (.ref 60), some (.int x1), some (.int x2), some (.int x3), some (.int x4), some (.int x5), none], [.int 1], σ)) rfl ?_
  exact fX7_shared_J79_ok _ _ _ _ _ _ _ _ hrec5 _ hf
def fX7_shared_L5 (x1 : Int32) (x2 : Int32) (σ : Sg)  (rec5 : (Int32 × Int32) → Option Int32) (s : Int32 × Int32) : Option Int32 :=
  match s with
  | (x3, x4) => if (gi σ 61 4) ≤ x4 then some x3 else if inb (21408 + (3 * x4)) 39698 then if (gi σ 61 (21408 + (3 * x4)).toNatClampNeg) ≠ x1 then fX7_shared_J50 x1 x2 x3 x4 (21408 + (3 * x4)) rec5 σ else if inb ((21408 + (3 * x4)) + 1) 39698 then if (gi σ 61 ((21408 + (3 * x4)) + 1).toNatClampNeg) = x2 then fX7_shared_J74 x1 x2 x3 x4 (21408 + (3 * x4)) rec5 σ else fX7_shared_J50 x1 x2 x3 x4 (21408 + (3 * x4)) rec5 σ else none else none
set_option maxHeartbeats 1500000 in
theorem fX7_shared_L5_ok (x1 : Int32) (x2 : Int32) (σ : Sg)   : ∀ (n : Nat) (x3 : Int32) (x4 : Int32) (r : Int32), lp (fX7_shared_L5 x1 x2 σ ) n (x3, x4) = some r → Go true 0 iX7_shared (5, [some (.ref 60), some (.int x1), some (.int x2), some (.int x3), some (.int x4), none, none], [], σ) (.inl (some (.int r)), σ) := by
  intro n
  induction n with
  | zero => intro x3 x4 r hf; cases hf
  | succ n ih =>
    intro x3 x4 r hf
    have hf : fX7_shared_L5 x1 x2 σ  (lp (fX7_shared_L5 x1 x2 σ ) n) (x3, x4) = some r := hf
    have hrec5 := ih
    generalize lp (fX7_shared_L5 x1 x2 σ ) n = rec5 at hf hrec5
    unfold fX7_shared_L5 at hf
    dsimp only at hf
    refine go_n 5 (f := (13, [some (.ref 60), some (.int x1), some (.int x2), some (.int x3), some (.int x4), none, none], [.int (gi σ 61 4), .int x4], σ)) rfl ?_
    by_cases h1 : (gi σ 61 4) ≤ x4
    · rw [if_pos h1] at hf
      refine go_it (t := 116) (f := 16) (L1 := [some (.ref 60), some (.int x1), some (.int x2), some (.int x3), some (.int x4), none, none]) (st1 := []) (σ1 := σ) rfl h1 ?_
      refine go_n 1 (f := (117, [some (.ref 60), some (.int x1), some (.int x2), some (.int x3), some (.int x4), none, none], [.int x3], σ)) rfl ?_
      cases hf
      exact go_r rfl
    · rw [if_neg h1] at hf
      refine go_if (t := 116) (f := 16) (L1 := [some (.ref 60), some (.int x1), some (.int x2), some (.int x3), some (.int x4), none, none]) (st1 := []) (σ1 := σ) rfl h1 ?_
      refine go_n 9 (f := (32, [some (.ref 60), some (.int x1), some (.int x2), some (.int x3), some (.int x4), some (.int (21408 + (3 * x4))), none], [.int (21408 + (3 * x4)), .ref 61], σ)) rfl ?_
      obtain ⟨h2, hf⟩ := grd hf
      refine go_iald rfl rfl rfl h2 ?_
      refine go_n 1 (f := (34, [some (.ref 60), some (.int x1), some (.int x2), some (.int x3), some (.int x4), some (.int (21408 + (3 * x4))), none], [.int x1, .int (gi σ 61 (21408 + (3 * x4)).toNatClampNeg)], σ)) rfl ?_
      by_cases h3 : (gi σ 61 (21408 + (3 * x4)).toNatClampNeg) ≠ x1
      · rw [if_pos h3] at hf
        refine go_it (t := 50) (f := 37) (L1 := [some (.ref 60), some (.int x1), some (.int x2), some (.int x3), some (.int x4), some (.int (21408 + (3 * x4))), none]) (st1 := []) (σ1 := σ) rfl h3 ?_
        exact fX7_shared_J50_ok _ _ _ _ _ _ _ hrec5 _ hf
      · rw [if_neg h3] at hf
        refine go_if (t := 50) (f := 37) (L1 := [some (.ref 60), some (.int x1), some (.int x2), some (.int x3), some (.int x4), some (.int (21408 + (3 * x4))), none]) (st1 := []) (σ1 := σ) rfl h3 ?_
        refine go_n 5 (f := (45, [some (.ref 60), some (.int x1), some (.int x2), some (.int x3), some (.int x4), some (.int (21408 + (3 * x4))), none], [.int ((21408 + (3 * x4)) + 1), .ref 61], σ)) rfl ?_
        obtain ⟨h20, hf⟩ := grd hf
        refine go_iald rfl rfl rfl h20 ?_
        refine go_n 1 (f := (47, [some (.ref 60), some (.int x1), some (.int x2), some (.int x3), some (.int x4), some (.int (21408 + (3 * x4))), none], [.int x2, .int (gi σ 61 ((21408 + (3 * x4)) + 1).toNatClampNeg)], σ)) rfl ?_
        by_cases h21 : (gi σ 61 ((21408 + (3 * x4)) + 1).toNatClampNeg) = x2
        · rw [if_pos h21] at hf
          refine go_it (t := 74) (f := 50) (L1 := [some (.ref 60), some (.int x1), some (.int x2), some (.int x3), some (.int x4), some (.int (21408 + (3 * x4))), none]) (st1 := []) (σ1 := σ) rfl h21 ?_
          exact fX7_shared_J74_ok _ _ _ _ _ _ _ hrec5 _ hf
        · rw [if_neg h21] at hf
          refine go_if (t := 74) (f := 50) (L1 := [some (.ref 60), some (.int x1), some (.int x2), some (.int x3), some (.int x4), some (.int (21408 + (3 * x4))), none]) (st1 := []) (σ1 := σ) rfl h21 ?_
          exact fX7_shared_J50_ok _ _ _ _ _ _ _ hrec5 _ hf
def fX7_shared (x1 : Int32) (x2 : Int32) (σ : Sg) : Option Int32 :=
  lp (fX7_shared_L5 x1 x2 σ ) N0 (0, 0)
set_option maxHeartbeats 1500000 in
theorem fX7_shared_ok (x1 : Int32) (x2 : Int32) (σ : Sg) (r : Int32) (hf : fX7_shared x1 x2 σ = some r) : Cl true 0 12112 [.ref 60, .int x1, .int x2] σ (.inl (some (.int r)), σ) := by
  refine ⟨iX7_shared, rfl, Nat.le_of_ble_eq_true rfl, Nat.le_of_ble_eq_true rfl, ?_⟩
  show Go true 0 iX7_shared (0, [some (.ref 60), some (.int x1), some (.int x2), none, none, none, none], [], σ) (.inl (some (.int r)), σ)
  unfold fX7_shared at hf
  refine go_n 4 (f := (5, [some (.ref 60), some (.int x1), some (.int x2), some (.int 0), some (.int 0), none, none], [], σ)) rfl ?_
  exact fX7_shared_L5_ok _ _ _   N0 _ _ _ hf
/-! OldWeatherModel.dayFirst(I)I -/
def fX7_dayFirst (x1 : Int32) (σ : Sg) : Option Int32 :=
  if inb x1 200 then some (gi σ 64 x1.toNatClampNeg) else none
set_option maxHeartbeats 1500000 in
theorem fX7_dayFirst_ok (x1 : Int32) (σ : Sg) (r : Int32) (hf : fX7_dayFirst x1 σ = some r) : Cl true 0 12114 [.ref 60, .int x1] σ (.inl (some (.int r)), σ) := by
  refine ⟨iX7_dayFirst, rfl, Nat.le_of_ble_eq_true rfl, Nat.le_of_ble_eq_true rfl, ?_⟩
  show Go true 0 iX7_dayFirst (0, [some (.ref 60), some (.int x1)], [], σ) (.inl (some (.int r)), σ)
  unfold fX7_dayFirst at hf
  refine go_n 3 (f := (5, [some (.ref 60), some (.int x1)], [.int x1, .ref 64], σ)) rfl ?_
  obtain ⟨h1, hf⟩ := grd hf
  refine go_iald rfl rfl rfl h1 ?_
  cases hf
  exact go_r rfl
/-! OldWeatherModel.isTold(I)Z -/
def fX7_isTold (x1 : Int32) (σ : Sg) : Option Int32 :=
  (fX7_get x1 6 σ).bind fun q1 => if (gi σ 60 31) < q1 then some 0 else (fX7_get x1 7 σ).bind fun q4 => if q4 = (-1) then some 1 else (fX7_get x1 7 σ).bind fun q7 => ((fun (z10 : Int32) => some z10) ((if q7 ≤ (gi σ 60 31) then 0 else 1) : Int32))
set_option maxHeartbeats 1500000 in
theorem fX7_isTold_ok (x1 : Int32) (σ : Sg) (r : Int32) (hf : fX7_isTold x1 σ = some r) : Cl true 1 12115 [.ref 60, .int x1] σ (.inl (some (.int r)), σ) := by
  refine ⟨iX7_isTold, rfl, Nat.le_of_ble_eq_true rfl, Nat.le_of_ble_eq_true rfl, ?_⟩
  show Go true 1 iX7_isTold (0, [some (.ref 60), some (.int x1)], [], σ) (.inl (some (.int r)), σ)
  unfold fX7_isTold at hf
  refine go_n 3 (f := (4, [some (.ref 60), some (.int x1)], [.int 6, .int x1, .ref 60], σ)) rfl ?_
  obtain ⟨q1, h2, hf⟩ := bnd hf
  refine go_c (mid := 12067) (args := [.ref 60, .int x1, .int 6]) (pc := 7) (L := [some (.ref 60), some (.int x1)]) (st := []) (σ := σ) rfl ((fX7_get_ok _ _ _ q1 h2).deep (Nat.le_of_ble_eq_true rfl)) ?_
  refine go_n 2 (f := (11, [some (.ref 60), some (.int x1)], [.int (gi σ 60 31), .int q1], σ)) rfl ?_
  by_cases h3 : (gi σ 60 31) < q1
  · rw [if_pos h3] at hf
    refine go_it (t := 43) (f := 14) (L1 := [some (.ref 60), some (.int x1)]) (st1 := []) (σ1 := σ) rfl h3 ?_
    refine go_e (L1 := [none, none]) rfl rfl ?_
    refine go_n 1 (f := (44, [none, none], [.int 0], σ)) rfl ?_
    cases hf
    exact go_r rfl
  · rw [if_neg h3] at hf
    refine go_if (t := 43) (f := 14) (L1 := [some (.ref 60), some (.int x1)]) (st1 := []) (σ1 := σ) rfl h3 ?_
    refine go_n 3 (f := (18, [some (.ref 60), some (.int x1)], [.int 7, .int x1, .ref 60], σ)) rfl ?_
    obtain ⟨q4, h5, hf⟩ := bnd hf
    refine go_c (mid := 12067) (args := [.ref 60, .int x1, .int 7]) (pc := 21) (L := [some (.ref 60), some (.int x1)]) (st := []) (σ := σ) rfl ((fX7_get_ok _ _ _ q4 h5).deep (Nat.le_of_ble_eq_true rfl)) ?_
    refine go_n 1 (f := (22, [some (.ref 60), some (.int x1)], [.int (-1), .int q4], σ)) rfl ?_
    by_cases h6 : q4 = (-1)
    · rw [if_pos h6] at hf
      refine go_it (t := 39) (f := 25) (L1 := [some (.ref 60), some (.int x1)]) (st1 := []) (σ1 := σ) rfl h6 ?_
      refine go_e (L1 := [none, none]) rfl rfl ?_
      refine go_n 2 (f := (44, [none, none], [.int 1], σ)) rfl ?_
      cases hf
      exact go_r rfl
    · rw [if_neg h6] at hf
      refine go_if (t := 39) (f := 25) (L1 := [some (.ref 60), some (.int x1)]) (st1 := []) (σ1 := σ) rfl h6 ?_
      refine go_n 3 (f := (29, [some (.ref 60), some (.int x1)], [.int 7, .int x1, .ref 60], σ)) rfl ?_
      obtain ⟨q7, h8, hf⟩ := bnd hf
      refine go_c (mid := 12067) (args := [.ref 60, .int x1, .int 7]) (pc := 32) (L := [some (.ref 60), some (.int x1)]) (st := []) (σ := σ) rfl ((fX7_get_ok _ _ _ q7 h8).deep (Nat.le_of_ble_eq_true rfl)) ?_
      refine go_n 2 (f := (36, [some (.ref 60), some (.int x1)], [.int (gi σ 60 31), .int q7], σ)) rfl ?_
      refine go_m (f := (44, [none, none], [.int ((if q7 ≤ (gi σ 60 31) then 0 else 1) : Int32)], σ)) ?_ (fun hJ11 => ?_)
      · generalize hz10 : ((if q7 ≤ (gi σ 60 31) then 0 else 1) : Int32) = z10 at hf ⊢
        have oz10 : am_ok 3 z10 = true := hz10 ▸ (okb rfl rfl)
        try dsimp only at hf
        cases hf
        exact go_ret rfl rfl (Or.inr (Or.inl ⟨rfl, oz10⟩))
      · by_cases h9 : q7 ≤ (gi σ 60 31)
        · refine go_it (t := 43) (f := 39) (L1 := [some (.ref 60), some (.int x1)]) (st1 := []) (σ1 := σ) rfl h9 ?_
          refine go_e (L1 := [none, none]) rfl rfl ?_
          refine go_n 1 (f := (44, [none, none], [.int 0], σ)) rfl ?_
          refine go_e (L1 := [none, none]) rfl rfl ?_
          simp only [if_pos h9] at hJ11
          first | exact hJ11 | (simp only [if_pos h9]; exact hJ11)
        · refine go_if (t := 43) (f := 39) (L1 := [some (.ref 60), some (.int x1)]) (st1 := []) (σ1 := σ) rfl h9 ?_
          refine go_e (L1 := [none, none]) rfl rfl ?_
          refine go_n 2 (f := (44, [none, none], [.int 1], σ)) rfl ?_
          refine go_e (L1 := [none, none]) rfl rfl ?_
          simp only [if_neg h9] at hJ11
          first | exact hJ11 | (simp only [if_neg h9]; exact hJ11)
/-! OldWeatherModel.placeOf(I)I -/
def fX7_placeOf (x1 : Int32) (σ : Sg) : Option Int32 :=
  if inb ((464 + (4 * x1)) + 1) 39698 then some (gi σ 61 ((464 + (4 * x1)) + 1).toNatClampNeg) else none
set_option maxHeartbeats 1500000 in
theorem fX7_placeOf_ok (x1 : Int32) (σ : Sg) (r : Int32) (hf : fX7_placeOf x1 σ = some r) : Cl true 0 12120 [.ref 60, .int x1] σ (.inl (some (.int r)), σ) := by
  refine ⟨iX7_placeOf, rfl, Nat.le_of_ble_eq_true rfl, Nat.le_of_ble_eq_true rfl, ?_⟩
  show Go true 0 iX7_placeOf (0, [some (.ref 60), some (.int x1)], [], σ) (.inl (some (.int r)), σ)
  unfold fX7_placeOf at hf
  refine go_n 9 (f := (13, [some (.ref 60), some (.int x1)], [.int ((464 + (4 * x1)) + 1), .ref 61], σ)) rfl ?_
  obtain ⟨h1, hf⟩ := grd hf
  refine go_iald rfl rfl rfl h1 ?_
  cases hf
  exact go_r rfl
/-! OldWeatherModel.handOf(I)I -/
def fX7_handOf (x1 : Int32) (σ : Sg) : Option Int32 :=
  if inb (464 + (4 * x1)) 39698 then some (gi σ 61 (464 + (4 * x1)).toNatClampNeg) else none
set_option maxHeartbeats 1500000 in
theorem fX7_handOf_ok (x1 : Int32) (σ : Sg) (r : Int32) (hf : fX7_handOf x1 σ = some r) : Cl true 0 12121 [.ref 60, .int x1] σ (.inl (some (.int r)), σ) := by
  refine ⟨iX7_handOf, rfl, Nat.le_of_ble_eq_true rfl, Nat.le_of_ble_eq_true rfl, ?_⟩
  show Go true 0 iX7_handOf (0, [some (.ref 60), some (.int x1)], [], σ) (.inl (some (.int r)), σ)
  unfold fX7_handOf at hf
  refine go_n 7 (f := (11, [some (.ref 60), some (.int x1)], [.int (464 + (4 * x1)), .ref 61], σ)) rfl ?_
  obtain ⟨h1, hf⟩ := grd hf
  refine go_iald rfl rfl rfl h1 ?_
  cases hf
  exact go_r rfl
/-! OldWeatherModel.reckon(IJJ)J -/
def fX7_reckon (x1 : Int32) (x2 : Int64) (x4 : Int64) (σ : Sg) : Option (Int64 × Sg) :=
  if x1 = 8 then some ((x2 + x4), σ) else if x1 = 9 then some ((x2 - x4), σ) else if x1 = 10 then some ((x2 * x4), σ) else if x1 = 11 then ((fun (z6 : Int32) => if z6 = 0 then if ¬ x4 = 0 then some ((x2 / x4), (wi σ 60 36 z6)) else none else some (0, (wi σ 60 36 z6))) ((if x4 ≠ 0 then 0 else 1) : Int32)) else if x1 = 12 then ((fun (z12 : Int64) => some (z12, σ)) ((if x4 ≤ x2 then 0 else 1) : Int64)) else if x1 = 13 then ((fun (z16 : Int64) => some (z16, σ)) ((if x2 ≤ x4 then 0 else 1) : Int64)) else ((fun (z19 : Int64) => some (z19, σ)) ((if x2 ≠ x4 then 0 else 1) : Int64))
set_option maxHeartbeats 1500000 in
theorem fX7_reckon_ok (x1 : Int32) (x2 : Int64) (x4 : Int64) (σ : Sg) (r : (Int64 × Sg)) (hf : fX7_reckon x1 x2 x4 σ = some r) : Cl true 0 12124 [.ref 60, .int x1, .long x2, .long x4] σ (.inl (some (.long (r).1)), (r).2) := by
  refine ⟨iX7_reckon, rfl, Nat.le_of_ble_eq_true rfl, Nat.le_of_ble_eq_true rfl, ?_⟩
  show Go true 0 iX7_reckon (0, [some (.ref 60), some (.int x1), some (.long x2), none, some (.long x4), none], [], σ) (.inl (some (.long (r).1)), (r).2)
  unfold fX7_reckon at hf
  refine go_n 1 (f := (1, [some (.ref 60), some (.int x1), some (.long x2), none, some (.long x4), none], [.int x1], σ)) rfl ?_
  by_cases h1 : x1 = 8
  · rw [if_pos h1] at hf
    refine go_tsw (t := 40) rfl rfl (by rw [h1]; rfl) ?_
    refine go_n 3 (f := (44, [some (.ref 60), some (.int x1), some (.long x2), none, some (.long x4), none], [.long (x2 + x4)], σ)) rfl ?_
    cases hf
    exact go_r rfl
  · rw [if_neg h1] at hf
    by_cases h2 : x1 = 9
    · rw [if_pos h2] at hf
      refine go_tsw (t := 45) rfl rfl (by rw [h2]; rfl) ?_
      refine go_n 3 (f := (49, [some (.ref 60), some (.int x1), some (.long x2), none, some (.long x4), none], [.long (x2 - x4)], σ)) rfl ?_
      cases hf
      exact go_r rfl
    · rw [if_neg h2] at hf
      by_cases h3 : x1 = 10
      · rw [if_pos h3] at hf
        refine go_tsw (t := 50) rfl rfl (by rw [h3]; rfl) ?_
        refine go_n 3 (f := (54, [some (.ref 60), some (.int x1), some (.long x2), none, some (.long x4), none], [.long (x2 * x4)], σ)) rfl ?_
        cases hf
        exact go_r rfl
      · rw [if_neg h3] at hf
        by_cases h4 : x1 = 11
        · rw [if_pos h4] at hf
          refine go_tsw (t := 55) rfl rfl (by rw [h4]; rfl) ?_
          refine go_n 4 (f := (60, [some (.ref 60), some (.int x1), some (.long x2), none, some (.long x4), none], [.int (lg_cmp x4 0), .ref 60], σ)) rfl ?_
          refine go_m (f := (68, [some (.ref 60), none, some (.long x2), none, some (.long x4), none], [.int ((if x4 ≠ 0 then 0 else 1) : Int32), .ref 60], σ)) ?_ (fun hJ9 => ?_)
          · generalize hz6 : ((if x4 ≠ 0 then 0 else 1) : Int32) = z6 at hf ⊢
            have oz6 : am_ok 3 z6 = true := hz6 ▸ (okb rfl rfl)
            try dsimp only at hf
            refine go_puti rfl rfl rfl rfl rfl oz6 rfl ?_
            refine go_n 2 (f := (75, [some (.ref 60), none, some (.long x2), none, some (.long x4), none], [.int z6], (wi σ 60 36 z6))) rfl ?_
            by_cases h7 : z6 = 0
            · rw [if_pos h7] at hf
              refine go_it (t := 82) (f := 78) (L1 := [some (.ref 60), none, some (.long x2), none, some (.long x4), none]) (st1 := []) (σ1 := (wi σ 60 36 z6)) rfl h7 ?_
              refine go_n 2 (f := (85, [some (.ref 60), none, some (.long x2), none, some (.long x4), none], [.long x4, .long x2], (wi σ 60 36 z6))) rfl ?_
              obtain ⟨h8, hf⟩ := grd hf
              refine go_ldiv rfl rfl h8 ?_
              refine go_e (L1 := [none, none, none, none, none, none]) rfl rfl ?_
              cases hf
              exact go_r rfl
            · rw [if_neg h7] at hf
              refine go_if (t := 82) (f := 78) (L1 := [some (.ref 60), none, some (.long x2), none, some (.long x4), none]) (st1 := []) (σ1 := (wi σ 60 36 z6)) rfl h7 ?_
              refine go_n 2 (f := (86, [some (.ref 60), none, some (.long x2), none, some (.long x4), none], [.long 0], (wi σ 60 36 z6))) rfl ?_
              refine go_e (L1 := [none, none, none, none, none, none]) rfl rfl ?_
              cases hf
              exact go_r rfl
          · by_cases h5 : x4 ≠ 0
            · refine go_it (t := 67) (f := 63) (L1 := [some (.ref 60), some (.int x1), some (.long x2), none, some (.long x4), none]) (st1 := [.ref 60]) (σ1 := σ) rfl ((lgc_ne x4 0).mpr h5) ?_
              refine go_n 1 (f := (68, [some (.ref 60), some (.int x1), some (.long x2), none, some (.long x4), none], [.int 0, .ref 60], σ)) rfl ?_
              refine go_e (L1 := [some (.ref 60), none, some (.long x2), none, some (.long x4), none]) rfl rfl ?_
              simp only [if_pos h5] at hJ9
              first | exact hJ9 | (simp only [if_pos h5]; exact hJ9)
            · refine go_if (t := 67) (f := 63) (L1 := [some (.ref 60), some (.int x1), some (.long x2), none, some (.long x4), none]) (st1 := [.ref 60]) (σ1 := σ) rfl (fun q => h5 ((lgc_ne x4 0).mp q)) ?_
              refine go_n 2 (f := (68, [some (.ref 60), some (.int x1), some (.long x2), none, some (.long x4), none], [.int 1, .ref 60], σ)) rfl ?_
              refine go_e (L1 := [some (.ref 60), none, some (.long x2), none, some (.long x4), none]) rfl rfl ?_
              simp only [if_neg h5] at hJ9
              first | exact hJ9 | (simp only [if_neg h5]; exact hJ9)
        · rw [if_neg h4] at hf
          by_cases h10 : x1 = 12
          · rw [if_pos h10] at hf
            refine go_tsw (t := 87) rfl rfl (by rw [h10]; rfl) ?_
            refine go_n 3 (f := (91, [some (.ref 60), some (.int x1), some (.long x2), none, some (.long x4), none], [.int (lg_cmp x2 x4)], σ)) rfl ?_
            refine go_m (f := (99, [none, none, none, none, none, none], [.long ((if x4 ≤ x2 then 0 else 1) : Int64)], σ)) ?_ (fun hJ13 => ?_)
            · generalize hz12 : ((if x4 ≤ x2 then 0 else 1) : Int64) = z12 at hf ⊢
              try dsimp only at hf
              cases hf
              exact go_r rfl
            · by_cases h11 : x4 ≤ x2
              · refine go_it (t := 98) (f := 94) (L1 := [some (.ref 60), some (.int x1), some (.long x2), none, some (.long x4), none]) (st1 := []) (σ1 := σ) rfl ((lgc_ge x2 x4).mpr h11) ?_
                refine go_n 1 (f := (99, [some (.ref 60), some (.int x1), some (.long x2), none, some (.long x4), none], [.long 0], σ)) rfl ?_
                refine go_e (L1 := [none, none, none, none, none, none]) rfl rfl ?_
                simp only [if_pos h11] at hJ13
                first | exact hJ13 | (simp only [if_pos h11]; exact hJ13)
              · refine go_if (t := 98) (f := 94) (L1 := [some (.ref 60), some (.int x1), some (.long x2), none, some (.long x4), none]) (st1 := []) (σ1 := σ) rfl (fun q => h11 ((lgc_ge x2 x4).mp q)) ?_
                refine go_n 2 (f := (99, [some (.ref 60), some (.int x1), some (.long x2), none, some (.long x4), none], [.long 1], σ)) rfl ?_
                refine go_e (L1 := [none, none, none, none, none, none]) rfl rfl ?_
                simp only [if_neg h11] at hJ13
                first | exact hJ13 | (simp only [if_neg h11]; exact hJ13)
          · rw [if_neg h10] at hf
            by_cases h14 : x1 = 13
            · rw [if_pos h14] at hf
              refine go_tsw (t := 100) rfl rfl (by rw [h14]; rfl) ?_
              refine go_n 3 (f := (104, [some (.ref 60), some (.int x1), some (.long x2), none, some (.long x4), none], [.int (lg_cmp x2 x4)], σ)) rfl ?_
              refine go_m (f := (112, [none, none, none, none, none, none], [.long ((if x2 ≤ x4 then 0 else 1) : Int64)], σ)) ?_ (fun hJ17 => ?_)
              · generalize hz16 : ((if x2 ≤ x4 then 0 else 1) : Int64) = z16 at hf ⊢
                try dsimp only at hf
                cases hf
                exact go_r rfl
              · by_cases h15 : x2 ≤ x4
                · refine go_it (t := 111) (f := 107) (L1 := [some (.ref 60), some (.int x1), some (.long x2), none, some (.long x4), none]) (st1 := []) (σ1 := σ) rfl ((lgc_le x2 x4).mpr h15) ?_
                  refine go_n 1 (f := (112, [some (.ref 60), some (.int x1), some (.long x2), none, some (.long x4), none], [.long 0], σ)) rfl ?_
                  refine go_e (L1 := [none, none, none, none, none, none]) rfl rfl ?_
                  simp only [if_pos h15] at hJ17
                  first | exact hJ17 | (simp only [if_pos h15]; exact hJ17)
                · refine go_if (t := 111) (f := 107) (L1 := [some (.ref 60), some (.int x1), some (.long x2), none, some (.long x4), none]) (st1 := []) (σ1 := σ) rfl (fun q => h15 ((lgc_le x2 x4).mp q)) ?_
                  refine go_n 2 (f := (112, [some (.ref 60), some (.int x1), some (.long x2), none, some (.long x4), none], [.long 1], σ)) rfl ?_
                  refine go_e (L1 := [none, none, none, none, none, none]) rfl rfl ?_
                  simp only [if_neg h15] at hJ17
                  first | exact hJ17 | (simp only [if_neg h15]; exact hJ17)
            · rw [if_neg h14] at hf
              have htt : am_ts 1 112 8 13 #[39, 44, 49, 54, 86, 99] x1 = some 113 := by
                have hts : x1.toInt < 8 ∨ 13 < x1.toInt := by
                  have h1t : x1.toInt ≠ 8 := tsn h1
                  have h2t : x1.toInt ≠ 9 := tsn h2
                  have h3t : x1.toInt ≠ 10 := tsn h3
                  have h4t : x1.toInt ≠ 11 := tsn h4
                  have h10t : x1.toInt ≠ 12 := tsn h10
                  have h14t : x1.toInt ≠ 13 := tsn h14
                  omega
                unfold am_ts; rw [if_pos hts]; rfl
              refine go_tsw (t := 113) rfl rfl htt ?_
              refine go_n 3 (f := (117, [some (.ref 60), some (.int x1), some (.long x2), none, some (.long x4), none], [.int (lg_cmp x2 x4)], σ)) rfl ?_
              refine go_m (f := (125, [none, none, none, none, none, none], [.long ((if x2 ≠ x4 then 0 else 1) : Int64)], σ)) ?_ (fun hJ20 => ?_)
              · generalize hz19 : ((if x2 ≠ x4 then 0 else 1) : Int64) = z19 at hf ⊢
                try dsimp only at hf
                cases hf
                exact go_r rfl
              · by_cases h18 : x2 ≠ x4
                · refine go_it (t := 124) (f := 120) (L1 := [some (.ref 60), some (.int x1), some (.long x2), none, some (.long x4), none]) (st1 := []) (σ1 := σ) rfl ((lgc_ne x2 x4).mpr h18) ?_
                  refine go_n 1 (f := (125, [some (.ref 60), some (.int x1), some (.long x2), none, some (.long x4), none], [.long 0], σ)) rfl ?_
                  refine go_e (L1 := [none, none, none, none, none, none]) rfl rfl ?_
                  simp only [if_pos h18] at hJ20
                  first | exact hJ20 | (simp only [if_pos h18]; exact hJ20)
                · refine go_if (t := 124) (f := 120) (L1 := [some (.ref 60), some (.int x1), some (.long x2), none, some (.long x4), none]) (st1 := []) (σ1 := σ) rfl (fun q => h18 ((lgc_ne x2 x4).mp q)) ?_
                  refine go_n 2 (f := (125, [some (.ref 60), some (.int x1), some (.long x2), none, some (.long x4), none], [.long 1], σ)) rfl ?_
                  refine go_e (L1 := [none, none, none, none, none, none]) rfl rfl ?_
                  simp only [if_neg h18] at hJ20
                  first | exact hJ20 | (simp only [if_neg h18]; exact hJ20)
/-! OldWeatherModel.within(J)I -/
def fX7_within (x0 : Int64) : Option Int32 :=
  ((fun (z3 : Int32) => some z3) (if (-1000) ≤ x0 then (if x0 ≤ 1000 then x0.toInt32 else 1000) else (-1000)))
set_option maxHeartbeats 1500000 in
theorem fX7_within_ok (x0 : Int64) (σ : Sg) (r : Int32) (hf : fX7_within x0 = some r) : Cl true 0 12126 [.long x0] σ (.inl (some (.int r)), σ) := by
  refine ⟨iX7_within, rfl, Nat.le_of_ble_eq_true rfl, Nat.le_of_ble_eq_true rfl, ?_⟩
  show Go true 0 iX7_within (0, [some (.long x0), none], [], σ) (.inl (some (.int r)), σ)
  unfold fX7_within at hf
  refine go_n 3 (f := (5, [some (.long x0), none], [.int (lg_cmp x0 (-1000))], σ)) rfl ?_
  refine go_m (f := (30, [none, none], [.int (if (-1000) ≤ x0 then (if x0 ≤ 1000 then x0.toInt32 else 1000) else (-1000))], σ)) ?_ (fun hJ4 => ?_)
  · generalize hz3 : (if (-1000) ≤ x0 then (if x0 ≤ 1000 then x0.toInt32 else 1000) else (-1000)) = z3 at hf ⊢
    try dsimp only at hf
    cases hf
    exact go_r rfl
  · by_cases h1 : (-1000) ≤ x0
    · refine go_it (t := 14) (f := 8) (L1 := [some (.long x0), none]) (st1 := []) (σ1 := σ) rfl ((lgc_ge x0 (-1000)).mpr h1) ?_
      refine go_n 3 (f := (19, [some (.long x0), none], [.int (lg_cmp x0 1000)], σ)) rfl ?_
      by_cases h2 : x0 ≤ 1000
      · refine go_it (t := 28) (f := 22) (L1 := [some (.long x0), none]) (st1 := []) (σ1 := σ) rfl ((lgc_le x0 1000).mpr h2) ?_
        refine go_n 2 (f := (30, [some (.long x0), none], [.int x0.toInt32], σ)) rfl ?_
        refine go_e (L1 := [none, none]) rfl rfl ?_
        simp only [if_pos h1, if_pos h2] at hJ4
        first | exact hJ4 | (simp only [if_pos h1, if_pos h2]; exact hJ4)
      · refine go_if (t := 28) (f := 22) (L1 := [some (.long x0), none]) (st1 := []) (σ1 := σ) rfl (fun q => h2 ((lgc_le x0 1000).mp q)) ?_
        refine go_n 2 (f := (30, [some (.long x0), none], [.int 1000], σ)) rfl ?_
        refine go_e (L1 := [none, none]) rfl rfl ?_
        simp only [if_pos h1, if_neg h2] at hJ4
        first | exact hJ4 | (simp only [if_pos h1, if_neg h2]; exact hJ4)
    · refine go_if (t := 14) (f := 8) (L1 := [some (.long x0), none]) (st1 := []) (σ1 := σ) rfl (fun q => h1 ((lgc_ge x0 (-1000)).mp q)) ?_
      refine go_n 2 (f := (30, [some (.long x0), none], [.int (-1000)], σ)) rfl ?_
      refine go_e (L1 := [none, none]) rfl rfl ?_
      simp only [if_neg h1] at hJ4
      first | exact hJ4 | (simp only [if_neg h1]; exact hJ4)
/-! OldWeatherModel.isSure(I)Z -/
def fX7_isSure (x1 : Int32) (σ : Sg) : Option (Int32 × Sg) :=
  if inb x1 200 then if inb x1 200 then ((fun (z4 : Int32) => some (z4, (wi σ 60 9 (gi σ 64 x1.toNatClampNeg)))) ((if (gi σ 65 x1.toNatClampNeg) ≠ 1 then 0 else 1) : Int32)) else none else none
set_option maxHeartbeats 1500000 in
theorem fX7_isSure_ok (x1 : Int32) (σ : Sg) (r : (Int32 × Sg)) (hf : fX7_isSure x1 σ = some r) : Cl true 0 12130 [.ref 60, .int x1] σ (.inl (some (.int (r).1)), (r).2) := by
  refine ⟨iX7_isSure, rfl, Nat.le_of_ble_eq_true rfl, Nat.le_of_ble_eq_true rfl, ?_⟩
  show Go true 0 iX7_isSure (0, [some (.ref 60), some (.int x1)], [], σ) (.inl (some (.int (r).1)), (r).2)
  unfold fX7_isSure at hf
  refine go_n 4 (f := (6, [some (.ref 60), some (.int x1)], [.int x1, .ref 64, .ref 60], σ)) rfl ?_
  obtain ⟨h1, hf⟩ := grd hf
  refine go_iald rfl rfl rfl h1 ?_
  refine go_n 4 (f := (15, [some (.ref 60), some (.int x1)], [.int x1, .ref 65], (wi σ 60 9 (gi σ 64 x1.toNatClampNeg)))) rfl ?_
  obtain ⟨h2, hf⟩ := grd hf
  refine go_iald rfl rfl rfl h2 ?_
  refine go_n 1 (f := (17, [some (.ref 60), some (.int x1)], [.int 1, .int (gi σ 65 x1.toNatClampNeg)], (wi σ 60 9 (gi σ 64 x1.toNatClampNeg)))) rfl ?_
  refine go_m (f := (25, [none, none], [.int ((if (gi σ 65 x1.toNatClampNeg) ≠ 1 then 0 else 1) : Int32)], (wi σ 60 9 (gi σ 64 x1.toNatClampNeg)))) ?_ (fun hJ5 => ?_)
  · generalize hz4 : ((if (gi σ 65 x1.toNatClampNeg) ≠ 1 then 0 else 1) : Int32) = z4 at hf ⊢
    have oz4 : am_ok 3 z4 = true := hz4 ▸ (okb rfl rfl)
    try dsimp only at hf
    cases hf
    exact go_ret rfl rfl (Or.inr (Or.inl ⟨rfl, oz4⟩))
  · by_cases h3 : (gi σ 65 x1.toNatClampNeg) ≠ 1
    · refine go_it (t := 24) (f := 20) (L1 := [some (.ref 60), some (.int x1)]) (st1 := []) (σ1 := (wi σ 60 9 (gi σ 64 x1.toNatClampNeg))) rfl h3 ?_
      refine go_n 1 (f := (25, [some (.ref 60), some (.int x1)], [.int 0], (wi σ 60 9 (gi σ 64 x1.toNatClampNeg)))) rfl ?_
      refine go_e (L1 := [none, none]) rfl rfl ?_
      simp only [if_pos h3] at hJ5
      first | exact hJ5 | (simp only [if_pos h3]; exact hJ5)
    · refine go_if (t := 24) (f := 20) (L1 := [some (.ref 60), some (.int x1)]) (st1 := []) (σ1 := (wi σ 60 9 (gi σ 64 x1.toNatClampNeg))) rfl h3 ?_
      refine go_n 2 (f := (25, [some (.ref 60), some (.int x1)], [.int 1], (wi σ 60 9 (gi σ 64 x1.toNatClampNeg)))) rfl ?_
      refine go_e (L1 := [none, none]) rfl rfl ?_
      simp only [if_neg h3] at hJ5
      first | exact hJ5 | (simp only [if_neg h3]; exact hJ5)
/-! OldWeatherModel.ordered(II)I -/
def fX7_ordered (x1 : Int32) (x2 : Int32) (σ : Sg) : Option Int32 :=
  (fX7_in x2.toInt64 0 19).bind fun q1 => if q1 = 0 then some (-1) else if inb ((21248 + (20 * x1)) + x2) 39698 then some ((gi σ 61 ((21248 + (20 * x1)) + x2).toNatClampNeg) - 1) else none
set_option maxHeartbeats 1500000 in
theorem fX7_ordered_ok (x1 : Int32) (x2 : Int32) (σ : Sg) (r : Int32) (hf : fX7_ordered x1 x2 σ = some r) : Cl true 1 12133 [.ref 60, .int x1, .int x2] σ (.inl (some (.int r)), σ) := by
  refine ⟨iX7_ordered, rfl, Nat.le_of_ble_eq_true rfl, Nat.le_of_ble_eq_true rfl, ?_⟩
  show Go true 1 iX7_ordered (0, [some (.ref 60), some (.int x1), some (.int x2)], [], σ) (.inl (some (.int r)), σ)
  unfold fX7_ordered at hf
  refine go_n 4 (f := (6, [some (.ref 60), some (.int x1), some (.int x2)], [.long 19, .long 0, .long x2.toInt64], σ)) rfl ?_
  obtain ⟨q1, h2, hf⟩ := bnd hf
  refine go_c (mid := 12034) (args := [.long x2.toInt64, .long 0, .long 19]) (pc := 9) (L := [some (.ref 60), some (.int x1), some (.int x2)]) (st := []) (σ := σ) rfl ((fX7_in_ok _ _ _ _ q1 h2).deep (Nat.le_of_ble_eq_true rfl)) ?_
  by_cases h3 : q1 = 0
  · rw [if_pos h3] at hf
    refine go_it (t := 32) (f := 12) (L1 := [some (.ref 60), some (.int x1), some (.int x2)]) (st1 := []) (σ1 := σ) rfl h3 ?_
    refine go_n 1 (f := (33, [some (.ref 60), some (.int x1), some (.int x2)], [.int (-1)], σ)) rfl ?_
    refine go_e (L1 := [none, none, none]) rfl rfl ?_
    cases hf
    exact go_r rfl
  · rw [if_neg h3] at hf
    refine go_if (t := 32) (f := 12) (L1 := [some (.ref 60), some (.int x1), some (.int x2)]) (st1 := []) (σ1 := σ) rfl h3 ?_
    refine go_n 9 (f := (26, [some (.ref 60), some (.int x1), some (.int x2)], [.int ((21248 + (20 * x1)) + x2), .ref 61], σ)) rfl ?_
    obtain ⟨h4, hf⟩ := grd hf
    refine go_iald rfl rfl rfl h4 ?_
    refine go_n 3 (f := (33, [some (.ref 60), some (.int x1), some (.int x2)], [.int ((gi σ 61 ((21248 + (20 * x1)) + x2).toNatClampNeg) - 1)], σ)) rfl ?_
    refine go_e (L1 := [none, none, none]) rfl rfl ?_
    cases hf
    exact go_r rfl
/-! OldWeatherModel.scale(III)I -/
def fX7_scale_J41   (σ : Sg) : Option (Int32 × Sg) :=
  (fX7_told (-1) σ).bind fun q4 => some (q4.1, q4.2)
set_option maxHeartbeats 1500000 in
theorem fX7_scale_J41_ok   (σ : Sg)  (r : (Int32 × Sg)) (hf : fX7_scale_J41   σ = some r) : Go true 1 iX7_scale (41, [some (.ref 60), none, none, none, none], [], σ) (.inl (some (.int (r).1)), (r).2) := by
  unfold fX7_scale_J41 at hf
  refine go_n 2 (f := (43, [some (.ref 60), none, none, none, none], [.int (-1), .ref 60], σ)) rfl ?_
  obtain ⟨q4, h5, hf⟩ := bnd hf
  refine go_c (mid := 12035) (args := [.ref 60, .int (-1)]) (pc := 46) (L := [some (.ref 60), none, none, none, none]) (st := []) (σ := σ) rfl ((fX7_told_ok _ _ q4 h5).deep (Nat.le_of_ble_eq_true rfl)) ?_
  cases hf
  exact go_r rfl
def fX7_scale_J92 (x1 : Int32) (x2 : Int32) (x3 : Int32) (x4 : Int32) (rec50 : Int32 → Option (Int32 × Sg)) (σ : Sg) : Option (Int32 × Sg) :=
  rec50 (x4 + 1)
set_option maxHeartbeats 1500000 in
theorem fX7_scale_J92_ok (x1 : Int32) (x2 : Int32) (x3 : Int32) (x4 : Int32) (rec50 : Int32 → Option (Int32 × Sg)) (σ : Sg) (hrec50 : ∀ (y4 : Int32) (r : (Int32 × Sg)), rec50 y4 = some r → Go true 1 iX7_scale (50, [some (.ref 60), some (.int x1), some (.int x2), some (.int x3), some (.int y4)], [], σ) (.inl (some (.int (r).1)), (r).2)) (r : (Int32 × Sg)) (hf : fX7_scale_J92 x1 x2 x3 x4 rec50 σ = some r) : Go true 1 iX7_scale (92, [some (.ref 60), some (.int x1), some (.int x2), some (.int x3), some (.int x4)], [], σ) (.inl (some (.int (r).1)), (r).2) := by
  unfold fX7_scale_J92 at hf
  refine go_n 2 (f := (50, [some (.ref 60), some (.int x1), some (.int x2), some (.int x3), some (.int (x4 + 1))], [], σ)) rfl ?_
  exact hrec50 _ _ hf
def fX7_scale_L50 (x1 : Int32) (x2 : Int32) (x3 : Int32) (σ : Sg)  (rec50 : Int32 → Option (Int32 × Sg)) (x4 : Int32) : Option (Int32 × Sg) :=
  if 20 ≤ x4 then if inb ((21248 + (20 * x1)) + x2) 39698 then (fX7_told 0 (wi σ 61 ((21248 + (20 * x1)) + x2).toNatClampNeg (x3 + 1))).bind fun q14 => some (q14.1, q14.2) else none else if x4 = x2 then fX7_scale_J92 x1 x2 x3 x4 rec50 σ else if inb ((21248 + (20 * x1)) + x4) 39698 then if (gi σ 61 ((21248 + (20 * x1)) + x4).toNatClampNeg) ≠ (x3 + 1) then fX7_scale_J92 x1 x2 x3 x4 rec50 σ else (fX7_told (-4) σ).bind fun q19 => some (q19.1, q19.2) else none
set_option maxHeartbeats 1500000 in
theorem fX7_scale_L50_ok (x1 : Int32) (x2 : Int32) (x3 : Int32) (σ : Sg)   : ∀ (n : Nat) (x4 : Int32) (r : (Int32 × Sg)), lp (fX7_scale_L50 x1 x2 x3 σ ) n x4 = some r → Go true 1 iX7_scale (50, [some (.ref 60), some (.int x1), some (.int x2), some (.int x3), some (.int x4)], [], σ) (.inl (some (.int (r).1)), (r).2) := by
  intro n
  induction n with
  | zero => intro x4 r hf; cases hf
  | succ n ih =>
    intro x4 r hf
    have hf : fX7_scale_L50 x1 x2 x3 σ  (lp (fX7_scale_L50 x1 x2 x3 σ ) n) x4 = some r := hf
    have hrec50 := ih
    generalize lp (fX7_scale_L50 x1 x2 x3 σ ) n = rec50 at hf hrec50
    unfold fX7_scale_L50 at hf
    refine go_n 2 (f := (54, [some (.ref 60), some (.int x1), some (.int x2), some (.int x3), some (.int x4)], [.int 20, .int x4], σ)) rfl ?_
    by_cases h12 : 20 ≤ x4
    · rw [if_pos h12] at hf
      refine go_it (t := 98) (f := 57) (L1 := [some (.ref 60), some (.int x1), some (.int x2), some (.int x3), some (.int x4)]) (st1 := []) (σ1 := σ) rfl h12 ?_
      refine go_n 10 (f := (113, [some (.ref 60), some (.int x1), some (.int x2), some (.int x3), some (.int x4)], [.int x3, .int ((21248 + (20 * x1)) + x2), .ref 61], σ)) rfl ?_
      refine go_n 2 (f := (115, [some (.ref 60), some (.int x1), some (.int x2), some (.int x3), some (.int x4)], [.int (x3 + 1), .int ((21248 + (20 * x1)) + x2), .ref 61], σ)) rfl ?_
      obtain ⟨h13, hf⟩ := grd hf
      refine go_iast rfl rfl rfl h13 ?_
      refine go_n 2 (f := (118, [some (.ref 60), some (.int x1), some (.int x2), some (.int x3), some (.int x4)], [.int 0, .ref 60], (wi σ 61 ((21248 + (20 * x1)) + x2).toNatClampNeg (x3 + 1)))) rfl ?_
      obtain ⟨q14, h15, hf⟩ := bnd hf
      refine go_c (mid := 12035) (args := [.ref 60, .int 0]) (pc := 121) (L := [some (.ref 60), some (.int x1), some (.int x2), some (.int x3), some (.int x4)]) (st := []) (σ := (wi σ 61 ((21248 + (20 * x1)) + x2).toNatClampNeg (x3 + 1))) rfl ((fX7_told_ok _ _ q14 h15).deep (Nat.le_of_ble_eq_true rfl)) ?_
      cases hf
      exact go_r rfl
    · rw [if_neg h12] at hf
      refine go_if (t := 98) (f := 57) (L1 := [some (.ref 60), some (.int x1), some (.int x2), some (.int x3), some (.int x4)]) (st1 := []) (σ1 := σ) rfl h12 ?_
      refine go_n 2 (f := (60, [some (.ref 60), some (.int x1), some (.int x2), some (.int x3), some (.int x4)], [.int x2, .int x4], σ)) rfl ?_
      by_cases h16 : x4 = x2
      · rw [if_pos h16] at hf
        refine go_it (t := 92) (f := 63) (L1 := [some (.ref 60), some (.int x1), some (.int x2), some (.int x3), some (.int x4)]) (st1 := []) (σ1 := σ) rfl h16 ?_
        exact fX7_scale_J92_ok _ _ _ _ _ _ hrec50 _ hf
      · rw [if_neg h16] at hf
        refine go_if (t := 92) (f := 63) (L1 := [some (.ref 60), some (.int x1), some (.int x2), some (.int x3), some (.int x4)]) (st1 := []) (σ1 := σ) rfl h16 ?_
        refine go_n 9 (f := (78, [some (.ref 60), some (.int x1), some (.int x2), some (.int x3), some (.int x4)], [.int ((21248 + (20 * x1)) + x4), .ref 61], σ)) rfl ?_
        obtain ⟨h17, hf⟩ := grd hf
        refine go_iald rfl rfl rfl h17 ?_
        refine go_n 3 (f := (82, [some (.ref 60), some (.int x1), some (.int x2), some (.int x3), some (.int x4)], [.int (x3 + 1), .int (gi σ 61 ((21248 + (20 * x1)) + x4).toNatClampNeg)], σ)) rfl ?_
        by_cases h18 : (gi σ 61 ((21248 + (20 * x1)) + x4).toNatClampNeg) ≠ (x3 + 1)
        · rw [if_pos h18] at hf
          refine go_it (t := 92) (f := 85) (L1 := [some (.ref 60), some (.int x1), some (.int x2), some (.int x3), some (.int x4)]) (st1 := []) (σ1 := σ) rfl h18 ?_
          exact fX7_scale_J92_ok _ _ _ _ _ _ hrec50 _ hf
        · rw [if_neg h18] at hf
          refine go_if (t := 92) (f := 85) (L1 := [some (.ref 60), some (.int x1), some (.int x2), some (.int x3), some (.int x4)]) (st1 := []) (σ1 := σ) rfl h18 ?_
          refine go_n 2 (f := (88, [some (.ref 60), some (.int x1), some (.int x2), some (.int x3), some (.int x4)], [.int (-4), .ref 60], σ)) rfl ?_
          obtain ⟨q19, h20, hf⟩ := bnd hf
          refine go_c (mid := 12035) (args := [.ref 60, .int (-4)]) (pc := 91) (L := [some (.ref 60), some (.int x1), some (.int x2), some (.int x3), some (.int x4)]) (st := []) (σ := σ) rfl ((fX7_told_ok _ _ q19 h20).deep (Nat.le_of_ble_eq_true rfl)) ?_
          cases hf
          exact go_r rfl
def fX7_scale (x1 : Int32) (x2 : Int32) (x3 : Int32) (σ : Sg) : Option (Int32 × Sg) :=
  (fX7_in x1.toInt64 0 7).bind fun q1 => if q1 = 0 then fX7_scale_J41   (wi σ 60 0 0) else (fX7_in x2.toInt64 0 19).bind fun q6 => if q6 = 0 then fX7_scale_J41   (wi σ 60 0 0) else (fX7_in x3.toInt64 0 19).bind fun q9 => if q9 ≠ 0 then lp (fX7_scale_L50 x1 x2 x3 (wi σ 60 0 0) ) N0 0 else fX7_scale_J41   (wi σ 60 0 0)
set_option maxHeartbeats 1500000 in
theorem fX7_scale_ok (x1 : Int32) (x2 : Int32) (x3 : Int32) (σ : Sg) (r : (Int32 × Sg)) (hf : fX7_scale x1 x2 x3 σ = some r) : Cl true 1 12134 [.ref 60, .int x1, .int x2, .int x3] σ (.inl (some (.int (r).1)), (r).2) := by
  refine ⟨iX7_scale, rfl, Nat.le_of_ble_eq_true rfl, Nat.le_of_ble_eq_true rfl, ?_⟩
  show Go true 1 iX7_scale (0, [some (.ref 60), some (.int x1), some (.int x2), some (.int x3), none], [], σ) (.inl (some (.int (r).1)), (r).2)
  unfold fX7_scale at hf
  refine go_n 7 (f := (11, [some (.ref 60), some (.int x1), some (.int x2), some (.int x3), none], [.long 7, .long 0, .long x1.toInt64], (wi σ 60 0 0))) rfl ?_
  obtain ⟨q1, h2, hf⟩ := bnd hf
  refine go_c (mid := 12034) (args := [.long x1.toInt64, .long 0, .long 7]) (pc := 14) (L := [some (.ref 60), some (.int x1), some (.int x2), some (.int x3), none]) (st := []) (σ := (wi σ 60 0 0)) rfl ((fX7_in_ok _ _ _ _ q1 h2).deep (Nat.le_of_ble_eq_true rfl)) ?_
  by_cases h3 : q1 = 0
  · rw [if_pos h3] at hf
    refine go_it (t := 41) (f := 17) (L1 := [some (.ref 60), some (.int x1), some (.int x2), some (.int x3), none]) (st1 := []) (σ1 := (wi σ 60 0 0)) rfl h3 ?_
    refine go_e (L1 := [some (.ref 60), none, none, none, none]) rfl rfl ?_
    exact fX7_scale_J41_ok   _  _ hf
  · rw [if_neg h3] at hf
    refine go_if (t := 41) (f := 17) (L1 := [some (.ref 60), some (.int x1), some (.int x2), some (.int x3), none]) (st1 := []) (σ1 := (wi σ 60 0 0)) rfl h3 ?_
    refine go_n 4 (f := (23, [some (.ref 60), some (.int x1), some (.int x2), some (.int x3), none], [.long 19, .long 0, .long x2.toInt64], (wi σ 60 0 0))) rfl ?_
    obtain ⟨q6, h7, hf⟩ := bnd hf
    refine go_c (mid := 12034) (args := [.long x2.toInt64, .long 0, .long 19]) (pc := 26) (L := [some (.ref 60), some (.int x1), some (.int x2), some (.int x3), none]) (st := []) (σ := (wi σ 60 0 0)) rfl ((fX7_in_ok _ _ _ _ q6 h7).deep (Nat.le_of_ble_eq_true rfl)) ?_
    by_cases h8 : q6 = 0
    · rw [if_pos h8] at hf
      refine go_it (t := 41) (f := 29) (L1 := [some (.ref 60), some (.int x1), some (.int x2), some (.int x3), none]) (st1 := []) (σ1 := (wi σ 60 0 0)) rfl h8 ?_
      refine go_e (L1 := [some (.ref 60), none, none, none, none]) rfl rfl ?_
      exact fX7_scale_J41_ok   _  _ hf
    · rw [if_neg h8] at hf
      refine go_if (t := 41) (f := 29) (L1 := [some (.ref 60), some (.int x1), some (.int x2), some (.int x3), none]) (st1 := []) (σ1 := (wi σ 60 0 0)) rfl h8 ?_
      refine go_n 4 (f := (35, [some (.ref 60), some (.int x1), some (.int x2), some (.int x3), none], [.long 19, .long 0, .long x3.toInt64], (wi σ 60 0 0))) rfl ?_
      obtain ⟨q9, h10, hf⟩ := bnd hf
      refine go_c (mid := 12034) (args := [.long x3.toInt64, .long 0, .long 19]) (pc := 38) (L := [some (.ref 60), some (.int x1), some (.int x2), some (.int x3), none]) (st := []) (σ := (wi σ 60 0 0)) rfl ((fX7_in_ok _ _ _ _ q9 h10).deep (Nat.le_of_ble_eq_true rfl)) ?_
      by_cases h11 : q9 ≠ 0
      · rw [if_pos h11] at hf
        refine go_it (t := 47) (f := 41) (L1 := [some (.ref 60), some (.int x1), some (.int x2), some (.int x3), none]) (st1 := []) (σ1 := (wi σ 60 0 0)) rfl h11 ?_
        refine go_n 2 (f := (50, [some (.ref 60), some (.int x1), some (.int x2), some (.int x3), some (.int 0)], [], (wi σ 60 0 0))) rfl ?_
        exact fX7_scale_L50_ok _ _ _ _   N0 _ _ hf
      · rw [if_neg h11] at hf
        refine go_if (t := 47) (f := 41) (L1 := [some (.ref 60), some (.int x1), some (.int x2), some (.int x3), none]) (st1 := []) (σ1 := (wi σ 60 0 0)) rfl h11 ?_
        refine go_e (L1 := [some (.ref 60), none, none, none, none]) rfl rfl ?_
        exact fX7_scale_J41_ok   _  _ hf
/-! OldWeatherModel.slip(III)I -/
def fX7_slip_J34   (σ : Sg) : Option (Int32 × Sg) :=
  (fX7_told (-2) σ).bind fun q7 => some (q7.1, q7.2)
set_option maxHeartbeats 1500000 in
theorem fX7_slip_J34_ok   (σ : Sg)  (r : (Int32 × Sg)) (hf : fX7_slip_J34   σ = some r) : Go true 2 iX7_slip (34, [some (.ref 60), none, none, none, none], [], σ) (.inl (some (.int (r).1)), (r).2) := by
  unfold fX7_slip_J34 at hf
  refine go_n 2 (f := (37, [some (.ref 60), none, none, none, none], [.int (-2), .ref 60], σ)) rfl ?_
  obtain ⟨q7, h8, hf⟩ := bnd hf
  refine go_c (mid := 12035) (args := [.ref 60, .int (-2)]) (pc := 40) (L := [some (.ref 60), none, none, none, none]) (st := []) (σ := σ) rfl ((fX7_told_ok _ _ q7 h8).deep (Nat.le_of_ble_eq_true rfl)) ?_
  cases hf
  exact go_r rfl
def fX7_slip (x1 : Int32) (x2 : Int32) (x3 : Int32) (σ : Sg) : Option (Int32 × Sg) :=
  (fX7_isKnown x3).bind fun q1 => if q1 ≠ 0 then (fX7_isSource x1 (wi σ 60 0 0)).bind fun q4 => if q4 = 0 then fX7_slip_J34   (wi σ 60 0 0) else (fX7_isSource x2 (wi σ 60 0 0)).bind fun q9 => if q9 ≠ 0 then if x1 ≠ x2 then if (gi σ 61 4) ≠ 60 then if inb (21408 + (3 * (gi σ 61 4))) 39698 then if inb ((21408 + (3 * (gi σ 61 4))) + 1) 39698 then if inb ((21408 + (3 * (gi σ 61 4))) + 2) 39698 then (fX7_told ((gi (wi (wi (wi (wi σ 60 0 0) 61 (21408 + (3 * (gi σ 61 4))).toNatClampNeg x1) 61 ((21408 + (3 * (gi σ 61 4))) + 1).toNatClampNeg x2) 61 ((21408 + (3 * (gi σ 61 4))) + 2).toNatClampNeg x3) 61 4) + 1) (wi (wi (wi (wi (wi σ 60 0 0) 61 (21408 + (3 * (gi σ 61 4))).toNatClampNeg x1) 61 ((21408 + (3 * (gi σ 61 4))) + 1).toNatClampNeg x2) 61 ((21408 + (3 * (gi σ 61 4))) + 2).toNatClampNeg x3) 61 4 ((gi (wi (wi (wi (wi σ 60 0 0) 61 (21408 + (3 * (gi σ 61 4))).toNatClampNeg x1) 61 ((21408 + (3 * (gi σ 61 4))) + 1).toNatClampNeg x2) 61 ((21408 + (3 * (gi σ 61 4))) + 2).toNatClampNeg x3) 61 4) + 1))).bind fun q17 => some (q17.1, q17.2) else none else none else none else (fX7_told (-5) (wi σ 60 0 0)).bind fun q19 => some (q19.1, q19.2) else (fX7_told (-3) (wi σ 60 0 0)).bind fun q21 => some (q21.1, q21.2) else fX7_slip_J34   (wi σ 60 0 0) else (fX7_told (-1) (wi σ 60 0 0)).bind fun q23 => some (q23.1, q23.2)
set_option maxHeartbeats 1500000 in
theorem fX7_slip_ok (x1 : Int32) (x2 : Int32) (x3 : Int32) (σ : Sg) (r : (Int32 × Sg)) (hf : fX7_slip x1 x2 x3 σ = some r) : Cl true 2 12136 [.ref 60, .int x1, .int x2, .int x3] σ (.inl (some (.int (r).1)), (r).2) := by
  refine ⟨iX7_slip, rfl, Nat.le_of_ble_eq_true rfl, Nat.le_of_ble_eq_true rfl, ?_⟩
  show Go true 2 iX7_slip (0, [some (.ref 60), some (.int x1), some (.int x2), some (.int x3), none], [], σ) (.inl (some (.int (r).1)), (r).2)
  unfold fX7_slip at hf
  refine go_n 4 (f := (6, [some (.ref 60), some (.int x1), some (.int x2), some (.int x3), none], [.int x3], (wi σ 60 0 0))) rfl ?_
  obtain ⟨q1, h2, hf⟩ := bnd hf
  refine go_c (mid := 12057) (args := [.int x3]) (pc := 9) (L := [some (.ref 60), some (.int x1), some (.int x2), some (.int x3), none]) (st := []) (σ := (wi σ 60 0 0)) rfl ((fX7_isKnown_ok _ _ q1 h2).deep (Nat.le_of_ble_eq_true rfl)) ?_
  by_cases h3 : q1 ≠ 0
  · rw [if_pos h3] at hf
    refine go_it (t := 18) (f := 12) (L1 := [some (.ref 60), some (.int x1), some (.int x2), some (.int x3), none]) (st1 := []) (σ1 := (wi σ 60 0 0)) rfl h3 ?_
    refine go_n 2 (f := (20, [some (.ref 60), some (.int x1), some (.int x2), some (.int x3), none], [.int x1, .ref 60], (wi σ 60 0 0))) rfl ?_
    obtain ⟨q4, h5, hf⟩ := bnd hf
    refine go_c (mid := 12053) (args := [.ref 60, .int x1]) (pc := 23) (L := [some (.ref 60), some (.int x1), some (.int x2), some (.int x3), none]) (st := []) (σ := (wi σ 60 0 0)) rfl ((fX7_isSource_ok _ _ q4 h5).deep (Nat.le_of_ble_eq_true rfl)) ?_
    by_cases h6 : q4 = 0
    · rw [if_pos h6] at hf
      refine go_it (t := 34) (f := 26) (L1 := [some (.ref 60), some (.int x1), some (.int x2), some (.int x3), none]) (st1 := []) (σ1 := (wi σ 60 0 0)) rfl h6 ?_
      refine go_e (L1 := [some (.ref 60), none, none, none, none]) rfl rfl ?_
      exact fX7_slip_J34_ok   _  _ hf
    · rw [if_neg h6] at hf
      refine go_if (t := 34) (f := 26) (L1 := [some (.ref 60), some (.int x1), some (.int x2), some (.int x3), none]) (st1 := []) (σ1 := (wi σ 60 0 0)) rfl h6 ?_
      refine go_n 2 (f := (28, [some (.ref 60), some (.int x1), some (.int x2), some (.int x3), none], [.int x2, .ref 60], (wi σ 60 0 0))) rfl ?_
      obtain ⟨q9, h10, hf⟩ := bnd hf
      refine go_c (mid := 12053) (args := [.ref 60, .int x2]) (pc := 31) (L := [some (.ref 60), some (.int x1), some (.int x2), some (.int x3), none]) (st := []) (σ := (wi σ 60 0 0)) rfl ((fX7_isSource_ok _ _ q9 h10).deep (Nat.le_of_ble_eq_true rfl)) ?_
      by_cases h11 : q9 ≠ 0
      · rw [if_pos h11] at hf
        refine go_it (t := 41) (f := 34) (L1 := [some (.ref 60), some (.int x1), some (.int x2), some (.int x3), none]) (st1 := []) (σ1 := (wi σ 60 0 0)) rfl h11 ?_
        refine go_n 2 (f := (43, [some (.ref 60), some (.int x1), some (.int x2), some (.int x3), none], [.int x2, .int x1], (wi σ 60 0 0))) rfl ?_
        by_cases h12 : x1 ≠ x2
        · rw [if_pos h12] at hf
          refine go_it (t := 53) (f := 46) (L1 := [some (.ref 60), some (.int x1), some (.int x2), some (.int x3), none]) (st1 := []) (σ1 := (wi σ 60 0 0)) rfl h12 ?_
          refine go_n 5 (f := (61, [some (.ref 60), some (.int x1), some (.int x2), some (.int x3), none], [.int 60, .int (gi σ 61 4)], (wi σ 60 0 0))) rfl ?_
          by_cases h13 : (gi σ 61 4) ≠ 60
          · rw [if_pos h13] at hf
            refine go_it (t := 71) (f := 64) (L1 := [some (.ref 60), some (.int x1), some (.int x2), some (.int x3), none]) (st1 := []) (σ1 := (wi σ 60 0 0)) rfl h13 ?_
            refine go_n 10 (f := (86, [some (.ref 60), some (.int x1), some (.int x2), some (.int x3), some (.int (21408 + (3 * (gi σ 61 4))))], [.ref 60], (wi σ 60 0 0))) rfl ?_
            refine go_n 3 (f := (92, [some (.ref 60), some (.int x1), some (.int x2), some (.int x3), some (.int (21408 + (3 * (gi σ 61 4))))], [.int x1, .int (21408 + (3 * (gi σ 61 4))), .ref 61], (wi σ 60 0 0))) rfl ?_
            obtain ⟨h14, hf⟩ := grd hf
            refine go_iast rfl rfl rfl h14 ?_
            refine go_n 6 (f := (102, [some (.ref 60), some (.int x1), some (.int x2), some (.int x3), some (.int (21408 + (3 * (gi σ 61 4))))], [.int x2, .int ((21408 + (3 * (gi σ 61 4))) + 1), .ref 61], (wi (wi σ 60 0 0) 61 (21408 + (3 * (gi σ 61 4))).toNatClampNeg x1))) rfl ?_
            obtain ⟨h15, hf⟩ := grd hf
            refine go_iast rfl rfl rfl h15 ?_
            refine go_n 6 (f := (112, [some (.ref 60), some (.int x1), some (.int x2), some (.int x3), some (.int (21408 + (3 * (gi σ 61 4))))], [.int x3, .int ((21408 + (3 * (gi σ 61 4))) + 2), .ref 61], (wi (wi (wi σ 60 0 0) 61 (21408 + (3 * (gi σ 61 4))).toNatClampNeg x1) 61 ((21408 + (3 * (gi σ 61 4))) + 1).toNatClampNeg x2))) rfl ?_
            obtain ⟨h16, hf⟩ := grd hf
            refine go_iast rfl rfl rfl h16 ?_
            refine go_n 10 (f := (125, [some (.ref 60), some (.int x1), some (.int x2), some (.int x3), some (.int (21408 + (3 * (gi σ 61 4))))], [.ref 60, .ref 60], (wi (wi (wi (wi (wi σ 60 0 0) 61 (21408 + (3 * (gi σ 61 4))).toNatClampNeg x1) 61 ((21408 + (3 * (gi σ 61 4))) + 1).toNatClampNeg x2) 61 ((21408 + (3 * (gi σ 61 4))) + 2).toNatClampNeg x3) 61 4 ((gi (wi (wi (wi (wi σ 60 0 0) 61 (21408 + (3 * (gi σ 61 4))).toNatClampNeg x1) 61 ((21408 + (3 * (gi σ 61 4))) + 1).toNatClampNeg x2) 61 ((21408 + (3 * (gi σ 61 4))) + 2).toNatClampNeg x3) 61 4) + 1)))) rfl ?_
            refine go_n 3 (f := (130, [some (.ref 60), some (.int x1), some (.int x2), some (.int x3), some (.int (21408 + (3 * (gi σ 61 4))))], [.int ((gi (wi (wi (wi (wi σ 60 0 0) 61 (21408 + (3 * (gi σ 61 4))).toNatClampNeg x1) 61 ((21408 + (3 * (gi σ 61 4))) + 1).toNatClampNeg x2) 61 ((21408 + (3 * (gi σ 61 4))) + 2).toNatClampNeg x3) 61 4) + 1), .ref 60], (wi (wi (wi (wi (wi σ 60 0 0) 61 (21408 + (3 * (gi σ 61 4))).toNatClampNeg x1) 61 ((21408 + (3 * (gi σ 61 4))) + 1).toNatClampNeg x2) 61 ((21408 + (3 * (gi σ 61 4))) + 2).toNatClampNeg x3) 61 4 ((gi (wi (wi (wi (wi σ 60 0 0) 61 (21408 + (3 * (gi σ 61 4))).toNatClampNeg x1) 61 ((21408 + (3 * (gi σ 61 4))) + 1).toNatClampNeg x2) 61 ((21408 + (3 * (gi σ 61 4))) + 2).toNatClampNeg x3) 61 4) + 1)))) rfl ?_
            obtain ⟨q17, h18, hf⟩ := bnd hf
            refine go_c (mid := 12035) (args := [.ref 60, .int ((gi (wi (wi (wi (wi σ 60 0 0) 61 (21408 + (3 * (gi σ 61 4))).toNatClampNeg x1) 61 ((21408 + (3 * (gi σ 61 4))) + 1).toNatClampNeg x2) 61 ((21408 + (3 * (gi σ 61 4))) + 2).toNatClampNeg x3) 61 4) + 1)]) (pc := 133) (L := [some (.ref 60), some (.int x1), some (.int x2), some (.int x3), some (.int (21408 + (3 * (gi σ 61 4))))]) (st := []) (σ := (wi (wi (wi (wi (wi σ 60 0 0) 61 (21408 + (3 * (gi σ 61 4))).toNatClampNeg x1) 61 ((21408 + (3 * (gi σ 61 4))) + 1).toNatClampNeg x2) 61 ((21408 + (3 * (gi σ 61 4))) + 2).toNatClampNeg x3) 61 4 ((gi (wi (wi (wi (wi σ 60 0 0) 61 (21408 + (3 * (gi σ 61 4))).toNatClampNeg x1) 61 ((21408 + (3 * (gi σ 61 4))) + 1).toNatClampNeg x2) 61 ((21408 + (3 * (gi σ 61 4))) + 2).toNatClampNeg x3) 61 4) + 1))) rfl ((fX7_told_ok _ _ q17 h18).deep (Nat.le_of_ble_eq_true rfl)) ?_
            cases hf
            exact go_r rfl
          · rw [if_neg h13] at hf
            refine go_if (t := 71) (f := 64) (L1 := [some (.ref 60), some (.int x1), some (.int x2), some (.int x3), none]) (st1 := []) (σ1 := (wi σ 60 0 0)) rfl h13 ?_
            refine go_n 2 (f := (67, [some (.ref 60), some (.int x1), some (.int x2), some (.int x3), none], [.int (-5), .ref 60], (wi σ 60 0 0))) rfl ?_
            obtain ⟨q19, h20, hf⟩ := bnd hf
            refine go_c (mid := 12035) (args := [.ref 60, .int (-5)]) (pc := 70) (L := [some (.ref 60), some (.int x1), some (.int x2), some (.int x3), none]) (st := []) (σ := (wi σ 60 0 0)) rfl ((fX7_told_ok _ _ q19 h20).deep (Nat.le_of_ble_eq_true rfl)) ?_
            cases hf
            exact go_r rfl
        · rw [if_neg h12] at hf
          refine go_if (t := 53) (f := 46) (L1 := [some (.ref 60), some (.int x1), some (.int x2), some (.int x3), none]) (st1 := []) (σ1 := (wi σ 60 0 0)) rfl h12 ?_
          refine go_n 2 (f := (49, [some (.ref 60), some (.int x1), some (.int x2), some (.int x3), none], [.int (-3), .ref 60], (wi σ 60 0 0))) rfl ?_
          obtain ⟨q21, h22, hf⟩ := bnd hf
          refine go_c (mid := 12035) (args := [.ref 60, .int (-3)]) (pc := 52) (L := [some (.ref 60), some (.int x1), some (.int x2), some (.int x3), none]) (st := []) (σ := (wi σ 60 0 0)) rfl ((fX7_told_ok _ _ q21 h22).deep (Nat.le_of_ble_eq_true rfl)) ?_
          cases hf
          exact go_r rfl
      · rw [if_neg h11] at hf
        refine go_if (t := 41) (f := 34) (L1 := [some (.ref 60), some (.int x1), some (.int x2), some (.int x3), none]) (st1 := []) (σ1 := (wi σ 60 0 0)) rfl h11 ?_
        refine go_e (L1 := [some (.ref 60), none, none, none, none]) rfl rfl ?_
        exact fX7_slip_J34_ok   _  _ hf
  · rw [if_neg h3] at hf
    refine go_if (t := 18) (f := 12) (L1 := [some (.ref 60), some (.int x1), some (.int x2), some (.int x3), none]) (st1 := []) (σ1 := (wi σ 60 0 0)) rfl h3 ?_
    refine go_n 2 (f := (14, [some (.ref 60), some (.int x1), some (.int x2), some (.int x3), none], [.int (-1), .ref 60], (wi σ 60 0 0))) rfl ?_
    obtain ⟨q23, h24, hf⟩ := bnd hf
    refine go_c (mid := 12035) (args := [.ref 60, .int (-1)]) (pc := 17) (L := [some (.ref 60), some (.int x1), some (.int x2), some (.int x3), none]) (st := []) (σ := (wi σ 60 0 0)) rfl ((fX7_told_ok _ _ q23 h24).deep (Nat.le_of_ble_eq_true rfl)) ?_
    cases hf
    exact go_r rfl
/-! OldWeatherModel.noShifts()V -/
def fX7_noShifts_L2   (rec2 : (Int32 × Sg) → Option Sg) (s : Int32 × Sg) : Option Sg :=
  match s with
  | (x1, σ) => if 16 ≤ x1 then some (wi σ 60 54 (-1)) else if inb x1 16 then rec2 ((x1 + 1), (wi σ 81 x1.toNatClampNeg 0)) else none
set_option maxHeartbeats 1500000 in
theorem fX7_noShifts_L2_ok    : ∀ (n : Nat) (x1 : Int32) (σ : Sg) (r : Sg), lp (fX7_noShifts_L2  ) n (x1, σ) = some r → Go true 0 iX7_noShifts (2, [some (.ref 60), some (.int x1)], [], σ) (.inl none, r) := by
  intro n
  induction n with
  | zero => intro x1 σ r hf; cases hf
  | succ n ih =>
    intro x1 σ r hf
    have hf : fX7_noShifts_L2   (lp (fX7_noShifts_L2  ) n) (x1, σ) = some r := hf
    have hrec2 := ih
    generalize lp (fX7_noShifts_L2  ) n = rec2 at hf hrec2
    unfold fX7_noShifts_L2 at hf
    dsimp only at hf
    refine go_n 2 (f := (5, [some (.ref 60), some (.int x1)], [.int 16, .int x1], σ)) rfl ?_
    by_cases h1 : 16 ≤ x1
    · rw [if_pos h1] at hf
      refine go_it (t := 21) (f := 8) (L1 := [some (.ref 60), some (.int x1)]) (st1 := []) (σ1 := σ) rfl h1 ?_
      refine go_n 3 (f := (26, [some (.ref 60), some (.int x1)], [], (wi σ 60 54 (-1)))) rfl ?_
      cases hf
      exact go_r rfl
    · rw [if_neg h1] at hf
      refine go_if (t := 21) (f := 8) (L1 := [some (.ref 60), some (.int x1)]) (st1 := []) (σ1 := σ) rfl h1 ?_
      refine go_n 4 (f := (14, [some (.ref 60), some (.int x1)], [.int 0, .int x1, .ref 81], σ)) rfl ?_
      obtain ⟨h2, hf⟩ := grd hf
      refine go_iast rfl rfl rfl h2 ?_
      refine go_n 2 (f := (2, [some (.ref 60), some (.int (x1 + 1))], [], (wi σ 81 x1.toNatClampNeg 0))) rfl ?_
      exact hrec2 _ _ _ hf
def fX7_noShifts  (σ : Sg) : Option Sg :=
  lp (fX7_noShifts_L2  ) N0 (0, σ)
set_option maxHeartbeats 1500000 in
theorem fX7_noShifts_ok  (σ : Sg) (r : Sg) (hf : fX7_noShifts  σ = some r) : Cl true 0 12141 [.ref 60] σ (.inl none, r) := by
  refine ⟨iX7_noShifts, rfl, Nat.le_of_ble_eq_true rfl, Nat.le_of_ble_eq_true rfl, ?_⟩
  show Go true 0 iX7_noShifts (0, [some (.ref 60), none], [], σ) (.inl none, r)
  unfold fX7_noShifts at hf
  refine go_n 2 (f := (2, [some (.ref 60), some (.int 0)], [], σ)) rfl ?_
  exact fX7_noShifts_L2_ok    N0 _ _ _ hf
/-! OldWeatherModel.likeOf(II)I -/
def fX7_likeOf (x1 : Int32) (x2 : Int32) (σ : Sg) : Option Int32 :=
  (fX7_placeAt x1).bind fun q1 => if inb ((q1 + 25) + x2) 39698 then some (gi σ 61 ((q1 + 25) + x2).toNatClampNeg) else none
set_option maxHeartbeats 1500000 in
theorem fX7_likeOf_ok (x1 : Int32) (x2 : Int32) (σ : Sg) (r : Int32) (hf : fX7_likeOf x1 x2 σ = some r) : Cl true 1 12143 [.ref 60, .int x1, .int x2] σ (.inl (some (.int r)), σ) := by
  refine ⟨iX7_likeOf, rfl, Nat.le_of_ble_eq_true rfl, Nat.le_of_ble_eq_true rfl, ?_⟩
  show Go true 1 iX7_likeOf (0, [some (.ref 60), some (.int x1), some (.int x2)], [], σ) (.inl (some (.int r)), σ)
  unfold fX7_likeOf at hf
  refine go_n 3 (f := (5, [some (.ref 60), some (.int x1), some (.int x2)], [.int x1, .ref 61], σ)) rfl ?_
  obtain ⟨q1, h2, hf⟩ := bnd hf
  refine go_c (mid := 12046) (args := [.int x1]) (pc := 8) (L := [some (.ref 60), some (.int x1), some (.int x2)]) (st := [.ref 61]) (σ := σ) rfl ((fX7_placeAt_ok _ _ q1 h2).deep (Nat.le_of_ble_eq_true rfl)) ?_
  refine go_n 4 (f := (13, [some (.ref 60), some (.int x1), some (.int x2)], [.int ((q1 + 25) + x2), .ref 61], σ)) rfl ?_
  obtain ⟨h3, hf⟩ := grd hf
  refine go_iald rfl rfl rfl h3 ?_
  cases hf
  exact go_r rfl
/-! OldWeatherModel.floor(JJ)I -/
def fX7_floor (x0 : Int64) (x2 : Int64) : Option Int32 :=
  if ¬ x2 = 0 then if ¬ x2 = 0 then ((fun (z3 : Int64) => some z3.toInt32) (if (x0 - x0 / x2 * x2) = 0 then (x0 / x2) else (if 0 ≤ x0 then (x0 / x2) else ((x0 / x2) - 1)))) else none else none
set_option maxHeartbeats 1500000 in
theorem fX7_floor_ok (x0 : Int64) (x2 : Int64) (σ : Sg) (r : Int32) (hf : fX7_floor x0 x2 = some r) : Cl true 0 12145 [.long x0, .long x2] σ (.inl (some (.int r)), σ) := by
  refine ⟨iX7_floor, rfl, Nat.le_of_ble_eq_true rfl, Nat.le_of_ble_eq_true rfl, ?_⟩
  show Go true 0 iX7_floor (0, [some (.long x0), none, some (.long x2), none, none, none], [], σ) (.inl (some (.int r)), σ)
  unfold fX7_floor at hf
  refine go_n 2 (f := (2, [some (.long x0), none, some (.long x2), none, none, none], [.long x2, .long x0], σ)) rfl ?_
  obtain ⟨h6, hf⟩ := grd hf
  refine go_ldiv rfl rfl h6 ?_
  refine go_n 3 (f := (7, [some (.long x0), none, some (.long x2), none, some (.long (x0 / x2)), none], [.long x2, .long x0], σ)) rfl ?_
  obtain ⟨h5, hf⟩ := grd hf
  refine go_lrem rfl rfl h5 ?_
  refine go_n 2 (f := (10, [some (.long x0), none, some (.long x2), none, some (.long (x0 / x2)), none], [.int (lg_cmp (x0 - x0 / x2 * x2) 0)], σ)) rfl ?_
  refine go_m (f := (28, [none, none, none, none, none, none], [.long (if (x0 - x0 / x2 * x2) = 0 then (x0 / x2) else (if 0 ≤ x0 then (x0 / x2) else ((x0 / x2) - 1)))], σ)) ?_ (fun hJ4 => ?_)
  · generalize hz3 : (if (x0 - x0 / x2 * x2) = 0 then (x0 / x2) else (if 0 ≤ x0 then (x0 / x2) else ((x0 / x2) - 1))) = z3 at hf ⊢
    try dsimp only at hf
    refine go_n 1 (f := (29, [none, none, none, none, none, none], [.int z3.toInt32], σ)) rfl ?_
    cases hf
    exact go_r rfl
  · by_cases h1 : (x0 - x0 / x2 * x2) = 0
    · refine go_it (t := 26) (f := 13) (L1 := [some (.long x0), none, some (.long x2), none, some (.long (x0 / x2)), none]) (st1 := []) (σ1 := σ) rfl ((lgc_eq (x0 - x0 / x2 * x2) 0).mpr h1) ?_
      refine go_e (L1 := [none, none, none, none, some (.long (x0 / x2)), none]) rfl rfl ?_
      refine go_n 1 (f := (28, [none, none, none, none, some (.long (x0 / x2)), none], [.long (x0 / x2)], σ)) rfl ?_
      refine go_e (L1 := [none, none, none, none, none, none]) rfl rfl ?_
      simp only [if_pos h1] at hJ4
      first | exact hJ4 | (simp only [if_pos h1]; exact hJ4)
    · refine go_if (t := 26) (f := 13) (L1 := [some (.long x0), none, some (.long x2), none, some (.long (x0 / x2)), none]) (st1 := []) (σ1 := σ) rfl (fun q => h1 ((lgc_eq (x0 - x0 / x2 * x2) 0).mp q)) ?_
      refine go_n 3 (f := (16, [some (.long x0), none, some (.long x2), none, some (.long (x0 / x2)), none], [.int (lg_cmp x0 0)], σ)) rfl ?_
      by_cases h2 : 0 ≤ x0
      · refine go_it (t := 26) (f := 19) (L1 := [some (.long x0), none, some (.long x2), none, some (.long (x0 / x2)), none]) (st1 := []) (σ1 := σ) rfl ((lgc_ge x0 0).mpr h2) ?_
        refine go_e (L1 := [none, none, none, none, some (.long (x0 / x2)), none]) rfl rfl ?_
        refine go_n 1 (f := (28, [none, none, none, none, some (.long (x0 / x2)), none], [.long (x0 / x2)], σ)) rfl ?_
        refine go_e (L1 := [none, none, none, none, none, none]) rfl rfl ?_
        simp only [if_neg h1, if_pos h2] at hJ4
        first | exact hJ4 | (simp only [if_neg h1, if_pos h2]; exact hJ4)
      · refine go_if (t := 26) (f := 19) (L1 := [some (.long x0), none, some (.long x2), none, some (.long (x0 / x2)), none]) (st1 := []) (σ1 := σ) rfl (fun q => h2 ((lgc_ge x0 0).mp q)) ?_
        refine go_n 4 (f := (28, [some (.long x0), none, some (.long x2), none, some (.long (x0 / x2)), none], [.long ((x0 / x2) - 1)], σ)) rfl ?_
        refine go_e (L1 := [none, none, none, none, none, none]) rfl rfl ?_
        simp only [if_neg h1, if_neg h2] at hJ4
        first | exact hJ4 | (simp only [if_neg h1, if_neg h2]; exact hJ4)
/-! OldWeatherModel.tellJoined(I)I -/
def fX7_tellJoined (x1 : Int32) (σ : Sg) : Option Int32 :=
  ((fun (z6 : Int32) => some z6) (if x1 ≠ 0 then (if x1 ≠ 1 then (if x1 ≠ 2 then (if x1 ≠ 3 then (if (gi σ 60 59) = 0 then 0 else 1) else (gi σ 60 55)) else (gi σ 60 57)) else (gi σ 60 56)) else (gi σ 60 58)))
set_option maxHeartbeats 1500000 in
theorem fX7_tellJoined_ok (x1 : Int32) (σ : Sg) (r : Int32) (hf : fX7_tellJoined x1 σ = some r) : Cl true 0 12146 [.ref 60, .int x1] σ (.inl (some (.int r)), σ) := by
  refine ⟨iX7_tellJoined, rfl, Nat.le_of_ble_eq_true rfl, Nat.le_of_ble_eq_true rfl, ?_⟩
  show Go true 0 iX7_tellJoined (0, [some (.ref 60), some (.int x1)], [], σ) (.inl (some (.int r)), σ)
  unfold fX7_tellJoined at hf
  refine go_n 1 (f := (1, [some (.ref 60), some (.int x1)], [.int x1], σ)) rfl ?_
  refine go_m (f := (59, [none, none], [.int (if x1 ≠ 0 then (if x1 ≠ 1 then (if x1 ≠ 2 then (if x1 ≠ 3 then (if (gi σ 60 59) = 0 then 0 else 1) else (gi σ 60 55)) else (gi σ 60 57)) else (gi σ 60 56)) else (gi σ 60 58))], σ)) ?_ (fun hJ7 => ?_)
  · generalize hz6 : (if x1 ≠ 0 then (if x1 ≠ 1 then (if x1 ≠ 2 then (if x1 ≠ 3 then (if (gi σ 60 59) = 0 then 0 else 1) else (gi σ 60 55)) else (gi σ 60 57)) else (gi σ 60 56)) else (gi σ 60 58)) = z6 at hf ⊢
    try dsimp only at hf
    cases hf
    exact go_r rfl
  · by_cases h1 : x1 ≠ 0
    · refine go_it (t := 11) (f := 4) (L1 := [some (.ref 60), some (.int x1)]) (st1 := []) (σ1 := σ) rfl h1 ?_
      refine go_n 2 (f := (13, [some (.ref 60), some (.int x1)], [.int 1, .int x1], σ)) rfl ?_
      by_cases h2 : x1 ≠ 1
      · refine go_it (t := 23) (f := 16) (L1 := [some (.ref 60), some (.int x1)]) (st1 := []) (σ1 := σ) rfl h2 ?_
        refine go_n 2 (f := (25, [some (.ref 60), some (.int x1)], [.int 2, .int x1], σ)) rfl ?_
        by_cases h3 : x1 ≠ 2
        · refine go_it (t := 35) (f := 28) (L1 := [some (.ref 60), some (.int x1)]) (st1 := []) (σ1 := σ) rfl h3 ?_
          refine go_n 2 (f := (37, [some (.ref 60), some (.int x1)], [.int 3, .int x1], σ)) rfl ?_
          by_cases h4 : x1 ≠ 3
          · refine go_it (t := 47) (f := 40) (L1 := [some (.ref 60), some (.int x1)]) (st1 := []) (σ1 := σ) rfl h4 ?_
            refine go_n 2 (f := (51, [some (.ref 60), some (.int x1)], [.int (gi σ 60 59)], σ)) rfl ?_
            by_cases h5 : (gi σ 60 59) = 0
            · refine go_it (t := 58) (f := 54) (L1 := [some (.ref 60), some (.int x1)]) (st1 := []) (σ1 := σ) rfl h5 ?_
              refine go_n 1 (f := (59, [some (.ref 60), some (.int x1)], [.int 0], σ)) rfl ?_
              refine go_e (L1 := [none, none]) rfl rfl ?_
              simp only [if_pos h1, if_pos h2, if_pos h3, if_pos h4, if_pos h5] at hJ7
              first | exact hJ7 | (simp only [if_pos h1, if_pos h2, if_pos h3, if_pos h4, if_pos h5]; exact hJ7)
            · refine go_if (t := 58) (f := 54) (L1 := [some (.ref 60), some (.int x1)]) (st1 := []) (σ1 := σ) rfl h5 ?_
              refine go_n 2 (f := (59, [some (.ref 60), some (.int x1)], [.int 1], σ)) rfl ?_
              refine go_e (L1 := [none, none]) rfl rfl ?_
              simp only [if_pos h1, if_pos h2, if_pos h3, if_pos h4, if_neg h5] at hJ7
              first | exact hJ7 | (simp only [if_pos h1, if_pos h2, if_pos h3, if_pos h4, if_neg h5]; exact hJ7)
          · refine go_if (t := 47) (f := 40) (L1 := [some (.ref 60), some (.int x1)]) (st1 := []) (σ1 := σ) rfl h4 ?_
            refine go_n 3 (f := (59, [some (.ref 60), some (.int x1)], [.int (gi σ 60 55)], σ)) rfl ?_
            refine go_e (L1 := [none, none]) rfl rfl ?_
            simp only [if_pos h1, if_pos h2, if_pos h3, if_neg h4] at hJ7
            first | exact hJ7 | (simp only [if_pos h1, if_pos h2, if_pos h3, if_neg h4]; exact hJ7)
        · refine go_if (t := 35) (f := 28) (L1 := [some (.ref 60), some (.int x1)]) (st1 := []) (σ1 := σ) rfl h3 ?_
          refine go_n 3 (f := (59, [some (.ref 60), some (.int x1)], [.int (gi σ 60 57)], σ)) rfl ?_
          refine go_e (L1 := [none, none]) rfl rfl ?_
          simp only [if_pos h1, if_pos h2, if_neg h3] at hJ7
          first | exact hJ7 | (simp only [if_pos h1, if_pos h2, if_neg h3]; exact hJ7)
      · refine go_if (t := 23) (f := 16) (L1 := [some (.ref 60), some (.int x1)]) (st1 := []) (σ1 := σ) rfl h2 ?_
        refine go_n 3 (f := (59, [some (.ref 60), some (.int x1)], [.int (gi σ 60 56)], σ)) rfl ?_
        refine go_e (L1 := [none, none]) rfl rfl ?_
        simp only [if_pos h1, if_neg h2] at hJ7
        first | exact hJ7 | (simp only [if_pos h1, if_neg h2]; exact hJ7)
    · refine go_if (t := 11) (f := 4) (L1 := [some (.ref 60), some (.int x1)]) (st1 := []) (σ1 := σ) rfl h1 ?_
      refine go_n 3 (f := (59, [some (.ref 60), some (.int x1)], [.int (gi σ 60 58)], σ)) rfl ?_
      refine go_e (L1 := [none, none]) rfl rfl ?_
      simp only [if_neg h1] at hJ7
      first | exact hJ7 | (simp only [if_neg h1]; exact hJ7)
/-! OldWeatherModel.wish(I)I -/
def fX7_wish_L22 (x1 : Int32) (σ : Sg)  (rec22 : Int32 → Option (Int32 × Sg)) (x2 : Int32) : Option (Int32 × Sg) :=
  if (gi σ 60 61) ≤ x2 then if (gi σ 60 61) ≠ 5 then if inb (gi σ 60 61) 5 then (fX7_told ((gi σ 60 61) + 1) (wi (wi σ 83 (gi σ 60 61).toNatClampNeg x1) 60 61 ((gi σ 60 61) + 1))).bind fun q7 => some (q7.1, q7.2) else none else (fX7_told (-5) σ).bind fun q9 => some (q9.1, q9.2) else if inb x2 5 then if (gi σ 83 x2.toNatClampNeg) ≠ x1 then rec22 (x2 + 1) else (fX7_told (-4) σ).bind fun q13 => some (q13.1, q13.2) else none
set_option maxHeartbeats 1500000 in
theorem fX7_wish_L22_ok (x1 : Int32) (σ : Sg)   : ∀ (n : Nat) (x2 : Int32) (r : (Int32 × Sg)), lp (fX7_wish_L22 x1 σ ) n x2 = some r → Go true 2 iX7_wish (22, [some (.ref 60), some (.int x1), some (.int x2)], [], σ) (.inl (some (.int (r).1)), (r).2) := by
  intro n
  induction n with
  | zero => intro x2 r hf; cases hf
  | succ n ih =>
    intro x2 r hf
    have hf : fX7_wish_L22 x1 σ  (lp (fX7_wish_L22 x1 σ ) n) x2 = some r := hf
    have hrec22 := ih
    generalize lp (fX7_wish_L22 x1 σ ) n = rec22 at hf hrec22
    unfold fX7_wish_L22 at hf
    refine go_n 3 (f := (27, [some (.ref 60), some (.int x1), some (.int x2)], [.int (gi σ 60 61), .int x2], σ)) rfl ?_
    by_cases h4 : (gi σ 60 61) ≤ x2
    · rw [if_pos h4] at hf
      refine go_it (t := 53) (f := 30) (L1 := [some (.ref 60), some (.int x1), some (.int x2)]) (st1 := []) (σ1 := σ) rfl h4 ?_
      refine go_n 3 (f := (58, [some (.ref 60), some (.int x1), some (.int x2)], [.int 5, .int (gi σ 60 61)], σ)) rfl ?_
      by_cases h5 : (gi σ 60 61) ≠ 5
      · rw [if_pos h5] at hf
        refine go_it (t := 68) (f := 61) (L1 := [some (.ref 60), some (.int x1), some (.int x2)]) (st1 := []) (σ1 := σ) rfl h5 ?_
        refine go_n 5 (f := (77, [some (.ref 60), some (.int x1), some (.int x2)], [.int x1, .int (gi σ 60 61), .ref 83], σ)) rfl ?_
        obtain ⟨h6, hf⟩ := grd hf
        refine go_iast rfl rfl rfl h6 ?_
        refine go_n 9 (f := (93, [some (.ref 60), some (.int x1), some (.int x2)], [.int ((gi σ 60 61) + 1), .ref 60], (wi (wi σ 83 (gi σ 60 61).toNatClampNeg x1) 60 61 ((gi σ 60 61) + 1)))) rfl ?_
        obtain ⟨q7, h8, hf⟩ := bnd hf
        refine go_c (mid := 12035) (args := [.ref 60, .int ((gi σ 60 61) + 1)]) (pc := 96) (L := [some (.ref 60), some (.int x1), some (.int x2)]) (st := []) (σ := (wi (wi σ 83 (gi σ 60 61).toNatClampNeg x1) 60 61 ((gi σ 60 61) + 1))) rfl ((fX7_told_ok _ _ q7 h8).deep (Nat.le_of_ble_eq_true rfl)) ?_
        cases hf
        exact go_r rfl
      · rw [if_neg h5] at hf
        refine go_if (t := 68) (f := 61) (L1 := [some (.ref 60), some (.int x1), some (.int x2)]) (st1 := []) (σ1 := σ) rfl h5 ?_
        refine go_n 2 (f := (64, [some (.ref 60), some (.int x1), some (.int x2)], [.int (-5), .ref 60], σ)) rfl ?_
        obtain ⟨q9, h10, hf⟩ := bnd hf
        refine go_c (mid := 12035) (args := [.ref 60, .int (-5)]) (pc := 67) (L := [some (.ref 60), some (.int x1), some (.int x2)]) (st := []) (σ := σ) rfl ((fX7_told_ok _ _ q9 h10).deep (Nat.le_of_ble_eq_true rfl)) ?_
        cases hf
        exact go_r rfl
    · rw [if_neg h4] at hf
      refine go_if (t := 53) (f := 30) (L1 := [some (.ref 60), some (.int x1), some (.int x2)]) (st1 := []) (σ1 := σ) rfl h4 ?_
      refine go_n 3 (f := (35, [some (.ref 60), some (.int x1), some (.int x2)], [.int x2, .ref 83], σ)) rfl ?_
      obtain ⟨h11, hf⟩ := grd hf
      refine go_iald rfl rfl rfl h11 ?_
      refine go_n 1 (f := (37, [some (.ref 60), some (.int x1), some (.int x2)], [.int x1, .int (gi σ 83 x2.toNatClampNeg)], σ)) rfl ?_
      by_cases h12 : (gi σ 83 x2.toNatClampNeg) ≠ x1
      · rw [if_pos h12] at hf
        refine go_it (t := 47) (f := 40) (L1 := [some (.ref 60), some (.int x1), some (.int x2)]) (st1 := []) (σ1 := σ) rfl h12 ?_
        refine go_n 2 (f := (22, [some (.ref 60), some (.int x1), some (.int (x2 + 1))], [], σ)) rfl ?_
        exact hrec22 _ _ hf
      · rw [if_neg h12] at hf
        refine go_if (t := 47) (f := 40) (L1 := [some (.ref 60), some (.int x1), some (.int x2)]) (st1 := []) (σ1 := σ) rfl h12 ?_
        refine go_n 2 (f := (43, [some (.ref 60), some (.int x1), some (.int x2)], [.int (-4), .ref 60], σ)) rfl ?_
        obtain ⟨q13, h14, hf⟩ := bnd hf
        refine go_c (mid := 12035) (args := [.ref 60, .int (-4)]) (pc := 46) (L := [some (.ref 60), some (.int x1), some (.int x2)]) (st := []) (σ := σ) rfl ((fX7_told_ok _ _ q13 h14).deep (Nat.le_of_ble_eq_true rfl)) ?_
        cases hf
        exact go_r rfl
def fX7_wish (x1 : Int32) (σ : Sg) : Option (Int32 × Sg) :=
  (fX7_isSource x1 (wi σ 60 0 0)).bind fun q1 => if q1 ≠ 0 then lp (fX7_wish_L22 x1 (wi σ 60 0 0) ) N0 0 else (fX7_told (-2) (wi σ 60 0 0)).bind fun q15 => some (q15.1, q15.2)
set_option maxHeartbeats 1500000 in
theorem fX7_wish_ok (x1 : Int32) (σ : Sg) (r : (Int32 × Sg)) (hf : fX7_wish x1 σ = some r) : Cl true 2 12149 [.ref 60, .int x1] σ (.inl (some (.int (r).1)), (r).2) := by
  refine ⟨iX7_wish, rfl, Nat.le_of_ble_eq_true rfl, Nat.le_of_ble_eq_true rfl, ?_⟩
  show Go true 2 iX7_wish (0, [some (.ref 60), some (.int x1), none], [], σ) (.inl (some (.int (r).1)), (r).2)
  unfold fX7_wish at hf
  refine go_n 5 (f := (7, [some (.ref 60), some (.int x1), none], [.int x1, .ref 60], (wi σ 60 0 0))) rfl ?_
  obtain ⟨q1, h2, hf⟩ := bnd hf
  refine go_c (mid := 12053) (args := [.ref 60, .int x1]) (pc := 10) (L := [some (.ref 60), some (.int x1), none]) (st := []) (σ := (wi σ 60 0 0)) rfl ((fX7_isSource_ok _ _ q1 h2).deep (Nat.le_of_ble_eq_true rfl)) ?_
  by_cases h3 : q1 ≠ 0
  · rw [if_pos h3] at hf
    refine go_it (t := 20) (f := 13) (L1 := [some (.ref 60), some (.int x1), none]) (st1 := []) (σ1 := (wi σ 60 0 0)) rfl h3 ?_
    refine go_n 2 (f := (22, [some (.ref 60), some (.int x1), some (.int 0)], [], (wi σ 60 0 0))) rfl ?_
    exact fX7_wish_L22_ok _ _   N0 _ _ hf
  · rw [if_neg h3] at hf
    refine go_if (t := 20) (f := 13) (L1 := [some (.ref 60), some (.int x1), none]) (st1 := []) (σ1 := (wi σ 60 0 0)) rfl h3 ?_
    refine go_n 2 (f := (16, [some (.ref 60), some (.int x1), none], [.int (-2), .ref 60], (wi σ 60 0 0))) rfl ?_
    obtain ⟨q15, h16, hf⟩ := bnd hf
    refine go_c (mid := 12035) (args := [.ref 60, .int (-2)]) (pc := 19) (L := [some (.ref 60), some (.int x1), none]) (st := []) (σ := (wi σ 60 0 0)) rfl ((fX7_told_ok _ _ q15 h16).deep (Nat.le_of_ble_eq_true rfl)) ?_
    cases hf
    exact go_r rfl
/-! OldWeatherModel.clear()I -/
def fX7_clear  (σ : Sg) : Option (Int32 × Sg) :=
  some ((gi σ 60 61), (wi (wi σ 60 0 0) 60 61 0))
set_option maxHeartbeats 1500000 in
theorem fX7_clear_ok  (σ : Sg) (r : (Int32 × Sg)) (hf : fX7_clear  σ = some r) : Cl true 0 12150 [.ref 60] σ (.inl (some (.int (r).1)), (r).2) := by
  refine ⟨iX7_clear, rfl, Nat.le_of_ble_eq_true rfl, Nat.le_of_ble_eq_true rfl, ?_⟩
  show Go true 0 iX7_clear (0, [some (.ref 60), none], [], σ) (.inl (some (.int (r).1)), (r).2)
  unfold fX7_clear at hf
  refine go_n 6 (f := (10, [some (.ref 60), some (.int (gi σ 60 61))], [], (wi σ 60 0 0))) rfl ?_
  refine go_n 4 (f := (16, [some (.ref 60), some (.int (gi σ 60 61))], [.int (gi σ 60 61)], (wi (wi σ 60 0 0) 60 61 0))) rfl ?_
  cases hf
  exact go_r rfl
/-! OldWeatherModel.shiftBy(I)I -/
def fX7_shiftBy (x0 : Int32) : Option Int32 :=
  if x0 = 0 then some 0 else if x0 = 1 then some 1 else if x0 = 2 then some (-1) else if x0 = 3 then some 10 else if x0 = 4 then some 11 else if x0 = 5 then some (-10) else if x0 = 6 then some (-11) else if x0 = 7 then some 30 else some (-30)
set_option maxHeartbeats 1500000 in
theorem fX7_shiftBy_ok (x0 : Int32) (σ : Sg) (r : Int32) (hf : fX7_shiftBy x0 = some r) : Cl true 0 12154 [.int x0] σ (.inl (some (.int r)), σ) := by
  refine ⟨iX7_shiftBy, rfl, Nat.le_of_ble_eq_true rfl, Nat.le_of_ble_eq_true rfl, ?_⟩
  show Go true 0 iX7_shiftBy (0, [some (.int x0)], [], σ) (.inl (some (.int r)), σ)
  unfold fX7_shiftBy at hf
  refine go_n 1 (f := (1, [some (.int x0)], [.int x0], σ)) rfl ?_
  by_cases h1 : x0 = 0
  · rw [if_pos h1] at hf
    refine go_tsw (t := 48) rfl rfl (by rw [h1]; rfl) ?_
    refine go_n 1 (f := (49, [some (.int x0)], [.int 0], σ)) rfl ?_
    cases hf
    exact go_r rfl
  · rw [if_neg h1] at hf
    by_cases h2 : x0 = 1
    · rw [if_pos h2] at hf
      refine go_tsw (t := 50) rfl rfl (by rw [h2]; rfl) ?_
      refine go_n 1 (f := (51, [some (.int x0)], [.int 1], σ)) rfl ?_
      cases hf
      exact go_r rfl
    · rw [if_neg h2] at hf
      by_cases h3 : x0 = 2
      · rw [if_pos h3] at hf
        refine go_tsw (t := 52) rfl rfl (by rw [h3]; rfl) ?_
        refine go_n 1 (f := (53, [some (.int x0)], [.int (-1)], σ)) rfl ?_
        cases hf
        exact go_r rfl
      · rw [if_neg h3] at hf
        by_cases h4 : x0 = 3
        · rw [if_pos h4] at hf
          refine go_tsw (t := 54) rfl rfl (by rw [h4]; rfl) ?_
          refine go_n 1 (f := (56, [some (.int x0)], [.int 10], σ)) rfl ?_
          cases hf
          exact go_r rfl
        · rw [if_neg h4] at hf
          by_cases h5 : x0 = 4
          · rw [if_pos h5] at hf
            refine go_tsw (t := 57) rfl rfl (by rw [h5]; rfl) ?_
            refine go_n 1 (f := (59, [some (.int x0)], [.int 11], σ)) rfl ?_
            cases hf
            exact go_r rfl
          · rw [if_neg h5] at hf
            by_cases h6 : x0 = 5
            · rw [if_pos h6] at hf
              refine go_tsw (t := 60) rfl rfl (by rw [h6]; rfl) ?_
              refine go_n 1 (f := (62, [some (.int x0)], [.int (-10)], σ)) rfl ?_
              cases hf
              exact go_r rfl
            · rw [if_neg h6] at hf
              by_cases h7 : x0 = 6
              · rw [if_pos h7] at hf
                refine go_tsw (t := 63) rfl rfl (by rw [h7]; rfl) ?_
                refine go_n 1 (f := (65, [some (.int x0)], [.int (-11)], σ)) rfl ?_
                cases hf
                exact go_r rfl
              · rw [if_neg h7] at hf
                by_cases h8 : x0 = 7
                · rw [if_pos h8] at hf
                  refine go_tsw (t := 66) rfl rfl (by rw [h8]; rfl) ?_
                  refine go_n 1 (f := (68, [some (.int x0)], [.int 30], σ)) rfl ?_
                  cases hf
                  exact go_r rfl
                · rw [if_neg h8] at hf
                  have htt : am_ts 1 68 0 7 #[47, 49, 51, 53, 56, 59, 62, 65] x0 = some 69 := by
                    have hts : x0.toInt < 0 ∨ 7 < x0.toInt := by
                      have h1t : x0.toInt ≠ 0 := tsn h1
                      have h2t : x0.toInt ≠ 1 := tsn h2
                      have h3t : x0.toInt ≠ 2 := tsn h3
                      have h4t : x0.toInt ≠ 3 := tsn h4
                      have h5t : x0.toInt ≠ 4 := tsn h5
                      have h6t : x0.toInt ≠ 5 := tsn h6
                      have h7t : x0.toInt ≠ 6 := tsn h7
                      have h8t : x0.toInt ≠ 7 := tsn h8
                      omega
                    unfold am_ts; rw [if_pos hts]; rfl
                  refine go_tsw (t := 69) rfl rfl htt ?_
                  refine go_n 1 (f := (71, [some (.int x0)], [.int (-30)], σ)) rfl ?_
                  cases hf
                  exact go_r rfl
/-! OldWeatherModel.wishOf(I)I -/
def fX7_wishOf_L4 (x1 : Int32) (σ : Sg)  (rec4 : (Int32 × Int32) → Option Int32) (s : Int32 × Int32) : Option Int32 :=
  match s with
  | (x2, x3) => if (gi σ 60 61) ≤ x3 then some x2 else if inb x3 5 then ((fun (z4 : Int32) => rec4 (z4, (x3 + 1))) (if (gi σ 83 x3.toNatClampNeg) ≠ x1 then x2 else x3)) else none
set_option maxHeartbeats 1500000 in
theorem fX7_wishOf_L4_ok (x1 : Int32) (σ : Sg)   : ∀ (n : Nat) (x2 : Int32) (x3 : Int32) (r : Int32), lp (fX7_wishOf_L4 x1 σ ) n (x2, x3) = some r → Go true 0 iX7_wishOf (4, [some (.ref 60), some (.int x1), some (.int x2), some (.int x3)], [], σ) (.inl (some (.int r)), σ) := by
  intro n
  induction n with
  | zero => intro x2 x3 r hf; cases hf
  | succ n ih =>
    intro x2 x3 r hf
    have hf : fX7_wishOf_L4 x1 σ  (lp (fX7_wishOf_L4 x1 σ ) n) (x2, x3) = some r := hf
    have hrec4 := ih
    generalize lp (fX7_wishOf_L4 x1 σ ) n = rec4 at hf hrec4
    unfold fX7_wishOf_L4 at hf
    dsimp only at hf
    refine go_n 3 (f := (9, [some (.ref 60), some (.int x1), some (.int x2), some (.int x3)], [.int (gi σ 60 61), .int x3], σ)) rfl ?_
    by_cases h1 : (gi σ 60 61) ≤ x3
    · rw [if_pos h1] at hf
      refine go_it (t := 34) (f := 12) (L1 := [some (.ref 60), some (.int x1), some (.int x2), some (.int x3)]) (st1 := []) (σ1 := σ) rfl h1 ?_
      refine go_n 1 (f := (35, [some (.ref 60), some (.int x1), some (.int x2), some (.int x3)], [.int x2], σ)) rfl ?_
      cases hf
      exact go_r rfl
    · rw [if_neg h1] at hf
      refine go_if (t := 34) (f := 12) (L1 := [some (.ref 60), some (.int x1), some (.int x2), some (.int x3)]) (st1 := []) (σ1 := σ) rfl h1 ?_
      refine go_n 3 (f := (17, [some (.ref 60), some (.int x1), some (.int x2), some (.int x3)], [.int x3, .ref 83], σ)) rfl ?_
      obtain ⟨h2, hf⟩ := grd hf
      refine go_iald rfl rfl rfl h2 ?_
      refine go_n 1 (f := (19, [some (.ref 60), some (.int x1), some (.int x2), some (.int x3)], [.int x1, .int (gi σ 83 x3.toNatClampNeg)], σ)) rfl ?_
      refine go_m (f := (27, [some (.ref 60), some (.int x1), none, some (.int x3)], [.int (if (gi σ 83 x3.toNatClampNeg) ≠ x1 then x2 else x3)], σ)) ?_ (fun hJ5 => ?_)
      · generalize hz4 : (if (gi σ 83 x3.toNatClampNeg) ≠ x1 then x2 else x3) = z4 at hf ⊢
        try dsimp only at hf
        refine go_n 2 (f := (31, [some (.ref 60), some (.int x1), some (.int z4), some (.int (x3 + 1))], [], σ)) rfl ?_
        refine go_n 1 (f := (4, [some (.ref 60), some (.int x1), some (.int z4), some (.int (x3 + 1))], [], σ)) rfl ?_
        exact hrec4 _ _ _ hf
      · by_cases h3 : (gi σ 83 x3.toNatClampNeg) ≠ x1
        · refine go_it (t := 26) (f := 22) (L1 := [some (.ref 60), some (.int x1), some (.int x2), some (.int x3)]) (st1 := []) (σ1 := σ) rfl h3 ?_
          refine go_n 1 (f := (27, [some (.ref 60), some (.int x1), some (.int x2), some (.int x3)], [.int x2], σ)) rfl ?_
          refine go_e (L1 := [some (.ref 60), some (.int x1), none, some (.int x3)]) rfl rfl ?_
          simp only [if_pos h3] at hJ5
          first | exact hJ5 | (simp only [if_pos h3]; exact hJ5)
        · refine go_if (t := 26) (f := 22) (L1 := [some (.ref 60), some (.int x1), some (.int x2), some (.int x3)]) (st1 := []) (σ1 := σ) rfl h3 ?_
          refine go_n 2 (f := (27, [some (.ref 60), some (.int x1), some (.int x2), some (.int x3)], [.int x3], σ)) rfl ?_
          refine go_e (L1 := [some (.ref 60), some (.int x1), none, some (.int x3)]) rfl rfl ?_
          simp only [if_neg h3] at hJ5
          first | exact hJ5 | (simp only [if_neg h3]; exact hJ5)
def fX7_wishOf (x1 : Int32) (σ : Sg) : Option Int32 :=
  lp (fX7_wishOf_L4 x1 σ ) N0 ((-1), 0)
set_option maxHeartbeats 1500000 in
theorem fX7_wishOf_ok (x1 : Int32) (σ : Sg) (r : Int32) (hf : fX7_wishOf x1 σ = some r) : Cl true 0 12155 [.ref 60, .int x1] σ (.inl (some (.int r)), σ) := by
  refine ⟨iX7_wishOf, rfl, Nat.le_of_ble_eq_true rfl, Nat.le_of_ble_eq_true rfl, ?_⟩
  show Go true 0 iX7_wishOf (0, [some (.ref 60), some (.int x1), none, none], [], σ) (.inl (some (.int r)), σ)
  unfold fX7_wishOf at hf
  refine go_n 4 (f := (4, [some (.ref 60), some (.int x1), some (.int (-1)), some (.int 0)], [], σ)) rfl ?_
  exact fX7_wishOf_L4_ok _ _   N0 _ _ _ hf
/-! OldWeatherModel.clash(IIII)Z -/
def fX7_clash_J68 (x5 : Int32) (x6 : Int32) (s0 : Int32)  (σ : Sg) : Option Int32 :=
  if s0 = 0 then some 0 else if inb x5 1800 then if inb x6 1800 then if (gi σ 87 x6.toNatClampNeg) < (gi σ 86 x5.toNatClampNeg) then some 1 else if inb x6 1800 then if inb x5 1800 then ((fun (z10 : Int32) => some z10) ((if (gi σ 86 x6.toNatClampNeg) ≤ (gi σ 87 x5.toNatClampNeg) then 0 else 1) : Int32)) else none else none else none else none
set_option maxHeartbeats 1500000 in
theorem fX7_clash_J68_ok (x5 : Int32) (x6 : Int32) (s0 : Int32)  (σ : Sg)  (r : Int32) (hf : fX7_clash_J68 x5 x6 s0  σ = some r) : Go true 1 iX7_clash (68, [some (.ref 60), none, none, none, none, some (.int x5), some (.int x6), none], [.int s0], σ) (.inl (some (.int r)), σ) := by
  unfold fX7_clash_J68 at hf
  refine go_n 2 (f := (72, [some (.ref 60), none, none, none, none, some (.int x5), some (.int x6), some (.int s0)], [.int s0], σ)) rfl ?_
  by_cases h3 : s0 = 0
  · rw [if_pos h3] at hf
    refine go_it (t := 113) (f := 75) (L1 := [some (.ref 60), none, none, none, none, some (.int x5), some (.int x6), some (.int s0)]) (st1 := []) (σ1 := σ) rfl h3 ?_
    refine go_e (L1 := [none, none, none, none, none, none, none, none]) rfl rfl ?_
    refine go_n 1 (f := (114, [none, none, none, none, none, none, none, none], [.int 0], σ)) rfl ?_
    cases hf
    exact go_r rfl
  · rw [if_neg h3] at hf
    refine go_if (t := 113) (f := 75) (L1 := [some (.ref 60), none, none, none, none, some (.int x5), some (.int x6), some (.int s0)]) (st1 := []) (σ1 := σ) rfl h3 ?_
    refine go_n 3 (f := (81, [some (.ref 60), none, none, none, none, some (.int x5), some (.int x6), some (.int s0)], [.int x5, .ref 86], σ)) rfl ?_
    obtain ⟨h4, hf⟩ := grd hf
    refine go_iald rfl rfl rfl h4 ?_
    refine go_n 3 (f := (88, [some (.ref 60), none, none, none, none, some (.int x5), some (.int x6), some (.int s0)], [.int x6, .ref 87, .int (gi σ 86 x5.toNatClampNeg)], σ)) rfl ?_
    obtain ⟨h5, hf⟩ := grd hf
    refine go_iald rfl rfl rfl h5 ?_
    by_cases h6 : (gi σ 87 x6.toNatClampNeg) < (gi σ 86 x5.toNatClampNeg)
    · rw [if_pos h6] at hf
      refine go_it (t := 109) (f := 92) (L1 := [some (.ref 60), none, none, none, none, some (.int x5), some (.int x6), some (.int s0)]) (st1 := []) (σ1 := σ) rfl h6 ?_
      refine go_e (L1 := [none, none, none, none, none, none, none, none]) rfl rfl ?_
      refine go_n 2 (f := (114, [none, none, none, none, none, none, none, none], [.int 1], σ)) rfl ?_
      cases hf
      exact go_r rfl
    · rw [if_neg h6] at hf
      refine go_if (t := 109) (f := 92) (L1 := [some (.ref 60), none, none, none, none, some (.int x5), some (.int x6), some (.int s0)]) (st1 := []) (σ1 := σ) rfl h6 ?_
      refine go_n 3 (f := (98, [some (.ref 60), none, none, none, none, some (.int x5), some (.int x6), some (.int s0)], [.int x6, .ref 86], σ)) rfl ?_
      obtain ⟨h7, hf⟩ := grd hf
      refine go_iald rfl rfl rfl h7 ?_
      refine go_n 3 (f := (105, [some (.ref 60), none, none, none, none, some (.int x5), some (.int x6), some (.int s0)], [.int x5, .ref 87, .int (gi σ 86 x6.toNatClampNeg)], σ)) rfl ?_
      obtain ⟨h8, hf⟩ := grd hf
      refine go_iald rfl rfl rfl h8 ?_
      refine go_m (f := (114, [none, none, none, none, none, none, none, none], [.int ((if (gi σ 86 x6.toNatClampNeg) ≤ (gi σ 87 x5.toNatClampNeg) then 0 else 1) : Int32)], σ)) ?_ (fun hJ11 => ?_)
      · generalize hz10 : ((if (gi σ 86 x6.toNatClampNeg) ≤ (gi σ 87 x5.toNatClampNeg) then 0 else 1) : Int32) = z10 at hf ⊢
        have oz10 : am_ok 3 z10 = true := hz10 ▸ (okb rfl rfl)
        try dsimp only at hf
        cases hf
        exact go_ret rfl rfl (Or.inr (Or.inl ⟨rfl, oz10⟩))
      · by_cases h9 : (gi σ 86 x6.toNatClampNeg) ≤ (gi σ 87 x5.toNatClampNeg)
        · refine go_it (t := 113) (f := 109) (L1 := [some (.ref 60), none, none, none, none, some (.int x5), some (.int x6), some (.int s0)]) (st1 := []) (σ1 := σ) rfl h9 ?_
          refine go_e (L1 := [none, none, none, none, none, none, none, none]) rfl rfl ?_
          refine go_n 1 (f := (114, [none, none, none, none, none, none, none, none], [.int 0], σ)) rfl ?_
          refine go_e (L1 := [none, none, none, none, none, none, none, none]) rfl rfl ?_
          simp only [if_pos h9] at hJ11
          first | exact hJ11 | (simp only [if_pos h9]; exact hJ11)
        · refine go_if (t := 113) (f := 109) (L1 := [some (.ref 60), none, none, none, none, some (.int x5), some (.int x6), some (.int s0)]) (st1 := []) (σ1 := σ) rfl h9 ?_
          refine go_e (L1 := [none, none, none, none, none, none, none, none]) rfl rfl ?_
          refine go_n 2 (f := (114, [none, none, none, none, none, none, none, none], [.int 1], σ)) rfl ?_
          refine go_e (L1 := [none, none, none, none, none, none, none, none]) rfl rfl ?_
          simp only [if_neg h9] at hJ11
          first | exact hJ11 | (simp only [if_neg h9]; exact hJ11)
def fX7_clash_J67 (x5 : Int32) (x6 : Int32)  (σ : Sg) : Option Int32 :=
  fX7_clash_J68 x5 x6 0  σ
set_option maxHeartbeats 1500000 in
theorem fX7_clash_J67_ok (x5 : Int32) (x6 : Int32)  (σ : Sg)  (r : Int32) (hf : fX7_clash_J67 x5 x6  σ = some r) : Go true 1 iX7_clash (67, [some (.ref 60), none, none, none, none, some (.int x5), some (.int x6), none], [], σ) (.inl (some (.int r)), σ) := by
  unfold fX7_clash_J67 at hf
  refine go_n 1 (f := (68, [some (.ref 60), none, none, none, none, some (.int x5), some (.int x6), none], [.int 0], σ)) rfl ?_
  exact fX7_clash_J68_ok _ _ _  _  _ hf
def fX7_clash (x1 : Int32) (x2 : Int32) (x3 : Int32) (x4 : Int32) (σ : Sg) : Option Int32 :=
  if inb ((9 * x1) + x2) 1800 then if (gi σ 88 ((9 * x1) + x2).toNatClampNeg) = 0 then fX7_clash_J67 ((9 * x1) + x2) ((9 * x3) + x4)  σ else if inb ((9 * x3) + x4) 1800 then if (gi σ 88 ((9 * x3) + x4).toNatClampNeg) = 0 then fX7_clash_J67 ((9 * x1) + x2) ((9 * x3) + x4)  σ else if inb x1 200 then (fX7_shiftBy x2).bind fun q15 => if inb x3 200 then (fX7_shiftBy x4).bind fun q18 => ((fun (z21 : Int32) => if z21 = 0 then some 0 else if inb ((9 * x1) + x2) 1800 then if inb ((9 * x3) + x4) 1800 then if (gi σ 87 ((9 * x3) + x4).toNatClampNeg) < (gi σ 86 ((9 * x1) + x2).toNatClampNeg) then some 1 else if inb ((9 * x3) + x4) 1800 then if inb ((9 * x1) + x2) 1800 then ((fun (z29 : Int32) => some z29) ((if (gi σ 86 ((9 * x3) + x4).toNatClampNeg) ≤ (gi σ 87 ((9 * x1) + x2).toNatClampNeg) then 0 else 1) : Int32)) else none else none else none else none) ((if ((gi σ 89 x1.toNatClampNeg) + q15) ≠ ((gi σ 89 x3.toNatClampNeg) + q18) then 0 else 1) : Int32)) else none else none else none else none
set_option maxHeartbeats 1500000 in
theorem fX7_clash_ok (x1 : Int32) (x2 : Int32) (x3 : Int32) (x4 : Int32) (σ : Sg) (r : Int32) (hf : fX7_clash x1 x2 x3 x4 σ = some r) : Cl true 1 12156 [.ref 60, .int x1, .int x2, .int x3, .int x4] σ (.inl (some (.int r)), σ) := by
  refine ⟨iX7_clash, rfl, Nat.le_of_ble_eq_true rfl, Nat.le_of_ble_eq_true rfl, ?_⟩
  show Go true 1 iX7_clash (0, [some (.ref 60), some (.int x1), some (.int x2), some (.int x3), some (.int x4), none, none, none], [], σ) (.inl (some (.int r)), σ)
  unfold fX7_clash at hf
  refine go_n 10 (f := (14, [some (.ref 60), some (.int x1), some (.int x2), some (.int x3), some (.int x4), some (.int ((9 * x1) + x2)), none, none], [.int x4, .int (9 * x3)], σ)) rfl ?_
  refine go_n 5 (f := (23, [some (.ref 60), some (.int x1), some (.int x2), some (.int x3), some (.int x4), some (.int ((9 * x1) + x2)), some (.int ((9 * x3) + x4)), none], [.int ((9 * x1) + x2), .ref 88], σ)) rfl ?_
  obtain ⟨h1, hf⟩ := grd hf
  refine go_bald rfl rfl (Or.inr rfl) h1 ?_
  by_cases h2 : (gi σ 88 ((9 * x1) + x2).toNatClampNeg) = 0
  · rw [if_pos h2] at hf
    refine go_it (t := 67) (f := 27) (L1 := [some (.ref 60), some (.int x1), some (.int x2), some (.int x3), some (.int x4), some (.int ((9 * x1) + x2)), some (.int ((9 * x3) + x4)), none]) (st1 := []) (σ1 := σ) rfl h2 ?_
    refine go_e (L1 := [some (.ref 60), none, none, none, none, some (.int ((9 * x1) + x2)), some (.int ((9 * x3) + x4)), none]) rfl rfl ?_
    exact fX7_clash_J67_ok _ _  _  _ hf
  · rw [if_neg h2] at hf
    refine go_if (t := 67) (f := 27) (L1 := [some (.ref 60), some (.int x1), some (.int x2), some (.int x3), some (.int x4), some (.int ((9 * x1) + x2)), some (.int ((9 * x3) + x4)), none]) (st1 := []) (σ1 := σ) rfl h2 ?_
    refine go_n 3 (f := (33, [some (.ref 60), some (.int x1), some (.int x2), some (.int x3), some (.int x4), some (.int ((9 * x1) + x2)), some (.int ((9 * x3) + x4)), none], [.int ((9 * x3) + x4), .ref 88], σ)) rfl ?_
    obtain ⟨h12, hf⟩ := grd hf
    refine go_bald rfl rfl (Or.inr rfl) h12 ?_
    by_cases h13 : (gi σ 88 ((9 * x3) + x4).toNatClampNeg) = 0
    · rw [if_pos h13] at hf
      refine go_it (t := 67) (f := 37) (L1 := [some (.ref 60), some (.int x1), some (.int x2), some (.int x3), some (.int x4), some (.int ((9 * x1) + x2)), some (.int ((9 * x3) + x4)), none]) (st1 := []) (σ1 := σ) rfl h13 ?_
      refine go_e (L1 := [some (.ref 60), none, none, none, none, some (.int ((9 * x1) + x2)), some (.int ((9 * x3) + x4)), none]) rfl rfl ?_
      exact fX7_clash_J67_ok _ _  _  _ hf
    · rw [if_neg h13] at hf
      refine go_if (t := 67) (f := 37) (L1 := [some (.ref 60), some (.int x1), some (.int x2), some (.int x3), some (.int x4), some (.int ((9 * x1) + x2)), some (.int ((9 * x3) + x4)), none]) (st1 := []) (σ1 := σ) rfl h13 ?_
      refine go_n 3 (f := (42, [some (.ref 60), some (.int x1), some (.int x2), some (.int x3), some (.int x4), some (.int ((9 * x1) + x2)), some (.int ((9 * x3) + x4)), none], [.int x1, .ref 89], σ)) rfl ?_
      obtain ⟨h14, hf⟩ := grd hf
      refine go_iald rfl rfl rfl h14 ?_
      refine go_n 1 (f := (44, [some (.ref 60), some (.int x1), some (.int x2), some (.int x3), some (.int x4), some (.int ((9 * x1) + x2)), some (.int ((9 * x3) + x4)), none], [.int x2, .int (gi σ 89 x1.toNatClampNeg)], σ)) rfl ?_
      obtain ⟨q15, h16, hf⟩ := bnd hf
      refine go_c (mid := 12154) (args := [.int x2]) (pc := 47) (L := [some (.ref 60), some (.int x1), some (.int x2), some (.int x3), some (.int x4), some (.int ((9 * x1) + x2)), some (.int ((9 * x3) + x4)), none]) (st := [.int (gi σ 89 x1.toNatClampNeg)]) (σ := σ) rfl ((fX7_shiftBy_ok _ _ q15 h16).deep (Nat.le_of_ble_eq_true rfl)) ?_
      refine go_n 4 (f := (53, [some (.ref 60), some (.int x1), some (.int x2), some (.int x3), some (.int x4), some (.int ((9 * x1) + x2)), some (.int ((9 * x3) + x4)), none], [.int x3, .ref 89, .int ((gi σ 89 x1.toNatClampNeg) + q15)], σ)) rfl ?_
      obtain ⟨h17, hf⟩ := grd hf
      refine go_iald rfl rfl rfl h17 ?_
      refine go_n 1 (f := (56, [some (.ref 60), some (.int x1), some (.int x2), some (.int x3), some (.int x4), some (.int ((9 * x1) + x2)), some (.int ((9 * x3) + x4)), none], [.int x4, .int (gi σ 89 x3.toNatClampNeg), .int ((gi σ 89 x1.toNatClampNeg) + q15)], σ)) rfl ?_
      obtain ⟨q18, h19, hf⟩ := bnd hf
      refine go_c (mid := 12154) (args := [.int x4]) (pc := 59) (L := [some (.ref 60), some (.int x1), some (.int x2), some (.int x3), some (.int x4), some (.int ((9 * x1) + x2)), some (.int ((9 * x3) + x4)), none]) (st := [.int (gi σ 89 x3.toNatClampNeg), .int ((gi σ 89 x1.toNatClampNeg) + q15)]) (σ := σ) rfl ((fX7_shiftBy_ok _ _ q18 h19).deep (Nat.le_of_ble_eq_true rfl)) ?_
      refine go_n 1 (f := (60, [some (.ref 60), some (.int x1), some (.int x2), some (.int x3), some (.int x4), some (.int ((9 * x1) + x2)), some (.int ((9 * x3) + x4)), none], [.int ((gi σ 89 x3.toNatClampNeg) + q18), .int ((gi σ 89 x1.toNatClampNeg) + q15)], σ)) rfl ?_
      refine go_m (f := (68, [some (.ref 60), none, none, none, none, some (.int ((9 * x1) + x2)), some (.int ((9 * x3) + x4)), none], [.int ((if ((gi σ 89 x1.toNatClampNeg) + q15) ≠ ((gi σ 89 x3.toNatClampNeg) + q18) then 0 else 1) : Int32)], σ)) ?_ (fun hJ31 => ?_)
      · generalize hz21 : ((if ((gi σ 89 x1.toNatClampNeg) + q15) ≠ ((gi σ 89 x3.toNatClampNeg) + q18) then 0 else 1) : Int32) = z21 at hf ⊢
        have oz21 : am_ok 3 z21 = true := hz21 ▸ (okb rfl rfl)
        try dsimp only at hf
        refine go_n 2 (f := (72, [some (.ref 60), none, none, none, none, some (.int ((9 * x1) + x2)), some (.int ((9 * x3) + x4)), some (.int z21)], [.int z21], σ)) rfl ?_
        by_cases h22 : z21 = 0
        · rw [if_pos h22] at hf
          refine go_it (t := 113) (f := 75) (L1 := [some (.ref 60), none, none, none, none, some (.int ((9 * x1) + x2)), some (.int ((9 * x3) + x4)), some (.int z21)]) (st1 := []) (σ1 := σ) rfl h22 ?_
          refine go_e (L1 := [none, none, none, none, none, none, none, none]) rfl rfl ?_
          refine go_n 1 (f := (114, [none, none, none, none, none, none, none, none], [.int 0], σ)) rfl ?_
          cases hf
          exact go_r rfl
        · rw [if_neg h22] at hf
          refine go_if (t := 113) (f := 75) (L1 := [some (.ref 60), none, none, none, none, some (.int ((9 * x1) + x2)), some (.int ((9 * x3) + x4)), some (.int z21)]) (st1 := []) (σ1 := σ) rfl h22 ?_
          refine go_n 3 (f := (81, [some (.ref 60), none, none, none, none, some (.int ((9 * x1) + x2)), some (.int ((9 * x3) + x4)), some (.int z21)], [.int ((9 * x1) + x2), .ref 86], σ)) rfl ?_
          obtain ⟨h23, hf⟩ := grd hf
          refine go_iald rfl rfl rfl h23 ?_
          refine go_n 3 (f := (88, [some (.ref 60), none, none, none, none, some (.int ((9 * x1) + x2)), some (.int ((9 * x3) + x4)), some (.int z21)], [.int ((9 * x3) + x4), .ref 87, .int (gi σ 86 ((9 * x1) + x2).toNatClampNeg)], σ)) rfl ?_
          obtain ⟨h24, hf⟩ := grd hf
          refine go_iald rfl rfl rfl h24 ?_
          by_cases h25 : (gi σ 87 ((9 * x3) + x4).toNatClampNeg) < (gi σ 86 ((9 * x1) + x2).toNatClampNeg)
          · rw [if_pos h25] at hf
            refine go_it (t := 109) (f := 92) (L1 := [some (.ref 60), none, none, none, none, some (.int ((9 * x1) + x2)), some (.int ((9 * x3) + x4)), some (.int z21)]) (st1 := []) (σ1 := σ) rfl h25 ?_
            refine go_e (L1 := [none, none, none, none, none, none, none, none]) rfl rfl ?_
            refine go_n 2 (f := (114, [none, none, none, none, none, none, none, none], [.int 1], σ)) rfl ?_
            cases hf
            exact go_r rfl
          · rw [if_neg h25] at hf
            refine go_if (t := 109) (f := 92) (L1 := [some (.ref 60), none, none, none, none, some (.int ((9 * x1) + x2)), some (.int ((9 * x3) + x4)), some (.int z21)]) (st1 := []) (σ1 := σ) rfl h25 ?_
            refine go_n 3 (f := (98, [some (.ref 60), none, none, none, none, some (.int ((9 * x1) + x2)), some (.int ((9 * x3) + x4)), some (.int z21)], [.int ((9 * x3) + x4), .ref 86], σ)) rfl ?_
            obtain ⟨h26, hf⟩ := grd hf
            refine go_iald rfl rfl rfl h26 ?_
            refine go_n 3 (f := (105, [some (.ref 60), none, none, none, none, some (.int ((9 * x1) + x2)), some (.int ((9 * x3) + x4)), some (.int z21)], [.int ((9 * x1) + x2), .ref 87, .int (gi σ 86 ((9 * x3) + x4).toNatClampNeg)], σ)) rfl ?_
            obtain ⟨h27, hf⟩ := grd hf
            refine go_iald rfl rfl rfl h27 ?_
            refine go_m (f := (114, [none, none, none, none, none, none, none, none], [.int ((if (gi σ 86 ((9 * x3) + x4).toNatClampNeg) ≤ (gi σ 87 ((9 * x1) + x2).toNatClampNeg) then 0 else 1) : Int32)], σ)) ?_ (fun hJ30 => ?_)
            · generalize hz29 : ((if (gi σ 86 ((9 * x3) + x4).toNatClampNeg) ≤ (gi σ 87 ((9 * x1) + x2).toNatClampNeg) then 0 else 1) : Int32) = z29 at hf ⊢
              have oz29 : am_ok 3 z29 = true := hz29 ▸ (okb rfl rfl)
              try dsimp only at hf
              cases hf
              exact go_ret rfl rfl (Or.inr (Or.inl ⟨rfl, oz29⟩))
            · by_cases h28 : (gi σ 86 ((9 * x3) + x4).toNatClampNeg) ≤ (gi σ 87 ((9 * x1) + x2).toNatClampNeg)
              · refine go_it (t := 113) (f := 109) (L1 := [some (.ref 60), none, none, none, none, some (.int ((9 * x1) + x2)), some (.int ((9 * x3) + x4)), some (.int z21)]) (st1 := []) (σ1 := σ) rfl h28 ?_
                refine go_e (L1 := [none, none, none, none, none, none, none, none]) rfl rfl ?_
                refine go_n 1 (f := (114, [none, none, none, none, none, none, none, none], [.int 0], σ)) rfl ?_
                refine go_e (L1 := [none, none, none, none, none, none, none, none]) rfl rfl ?_
                simp only [if_pos h28] at hJ30
                first | exact hJ30 | (simp only [if_pos h28]; exact hJ30)
              · refine go_if (t := 113) (f := 109) (L1 := [some (.ref 60), none, none, none, none, some (.int ((9 * x1) + x2)), some (.int ((9 * x3) + x4)), some (.int z21)]) (st1 := []) (σ1 := σ) rfl h28 ?_
                refine go_e (L1 := [none, none, none, none, none, none, none, none]) rfl rfl ?_
                refine go_n 2 (f := (114, [none, none, none, none, none, none, none, none], [.int 1], σ)) rfl ?_
                refine go_e (L1 := [none, none, none, none, none, none, none, none]) rfl rfl ?_
                simp only [if_neg h28] at hJ30
                first | exact hJ30 | (simp only [if_neg h28]; exact hJ30)
      · by_cases h20 : ((gi σ 89 x1.toNatClampNeg) + q15) ≠ ((gi σ 89 x3.toNatClampNeg) + q18)
        · refine go_it (t := 67) (f := 63) (L1 := [some (.ref 60), some (.int x1), some (.int x2), some (.int x3), some (.int x4), some (.int ((9 * x1) + x2)), some (.int ((9 * x3) + x4)), none]) (st1 := []) (σ1 := σ) rfl h20 ?_
          refine go_e (L1 := [some (.ref 60), none, none, none, none, some (.int ((9 * x1) + x2)), some (.int ((9 * x3) + x4)), none]) rfl rfl ?_
          refine go_n 1 (f := (68, [some (.ref 60), none, none, none, none, some (.int ((9 * x1) + x2)), some (.int ((9 * x3) + x4)), none], [.int 0], σ)) rfl ?_
          refine go_e (L1 := [some (.ref 60), none, none, none, none, some (.int ((9 * x1) + x2)), some (.int ((9 * x3) + x4)), none]) rfl rfl ?_
          simp only [if_pos h20] at hJ31
          first | exact hJ31 | (simp only [if_pos h20]; exact hJ31)
        · refine go_if (t := 67) (f := 63) (L1 := [some (.ref 60), some (.int x1), some (.int x2), some (.int x3), some (.int x4), some (.int ((9 * x1) + x2)), some (.int ((9 * x3) + x4)), none]) (st1 := []) (σ1 := σ) rfl h20 ?_
          refine go_n 2 (f := (68, [some (.ref 60), some (.int x1), some (.int x2), some (.int x3), some (.int x4), some (.int ((9 * x1) + x2)), some (.int ((9 * x3) + x4)), none], [.int 1], σ)) rfl ?_
          refine go_e (L1 := [some (.ref 60), none, none, none, none, some (.int ((9 * x1) + x2)), some (.int ((9 * x3) + x4)), none]) rfl rfl ?_
          simp only [if_neg h20] at hJ31
          first | exact hJ31 | (simp only [if_neg h20]; exact hJ31)
/-! OldWeatherModel.rowsOf()I -/
def fX7_rowsOf_L4  (σ : Sg)  (rec4 : (Int32 × Int32) → Option Int32) (s : Int32 × Int32) : Option Int32 :=
  match s with
  | (x1, x2) => if (gi σ 60 61) ≤ x2 then some x1 else rec4 ((x1 * 9), (x2 + 1))
set_option maxHeartbeats 1500000 in
theorem fX7_rowsOf_L4_ok  (σ : Sg)   : ∀ (n : Nat) (x1 : Int32) (x2 : Int32) (r : Int32), lp (fX7_rowsOf_L4  σ ) n (x1, x2) = some r → Go true 0 iX7_rowsOf (4, [some (.ref 60), some (.int x1), some (.int x2)], [], σ) (.inl (some (.int r)), σ) := by
  intro n
  induction n with
  | zero => intro x1 x2 r hf; cases hf
  | succ n ih =>
    intro x1 x2 r hf
    have hf : fX7_rowsOf_L4  σ  (lp (fX7_rowsOf_L4  σ ) n) (x1, x2) = some r := hf
    have hrec4 := ih
    generalize lp (fX7_rowsOf_L4  σ ) n = rec4 at hf hrec4
    unfold fX7_rowsOf_L4 at hf
    dsimp only at hf
    refine go_n 3 (f := (9, [some (.ref 60), some (.int x1), some (.int x2)], [.int (gi σ 60 61), .int x2], σ)) rfl ?_
    by_cases h1 : (gi σ 60 61) ≤ x2
    · rw [if_pos h1] at hf
      refine go_it (t := 23) (f := 12) (L1 := [some (.ref 60), some (.int x1), some (.int x2)]) (st1 := []) (σ1 := σ) rfl h1 ?_
      refine go_n 1 (f := (24, [some (.ref 60), some (.int x1), some (.int x2)], [.int x1], σ)) rfl ?_
      cases hf
      exact go_r rfl
    · rw [if_neg h1] at hf
      refine go_if (t := 23) (f := 12) (L1 := [some (.ref 60), some (.int x1), some (.int x2)]) (st1 := []) (σ1 := σ) rfl h1 ?_
      refine go_n 5 (f := (20, [some (.ref 60), some (.int (x1 * 9)), some (.int (x2 + 1))], [], σ)) rfl ?_
      refine go_n 1 (f := (4, [some (.ref 60), some (.int (x1 * 9)), some (.int (x2 + 1))], [], σ)) rfl ?_
      exact hrec4 _ _ _ hf
def fX7_rowsOf  (σ : Sg) : Option Int32 :=
  lp (fX7_rowsOf_L4  σ ) N0 (1, 0)
set_option maxHeartbeats 1500000 in
theorem fX7_rowsOf_ok  (σ : Sg) (r : Int32) (hf : fX7_rowsOf  σ = some r) : Cl true 0 12157 [.ref 60] σ (.inl (some (.int r)), σ) := by
  refine ⟨iX7_rowsOf, rfl, Nat.le_of_ble_eq_true rfl, Nat.le_of_ble_eq_true rfl, ?_⟩
  show Go true 0 iX7_rowsOf (0, [some (.ref 60), none, none], [], σ) (.inl (some (.int r)), σ)
  unfold fX7_rowsOf at hf
  refine go_n 4 (f := (4, [some (.ref 60), some (.int 1), some (.int 0)], [], σ)) rfl ?_
  exact fX7_rowsOf_L4_ok  _   N0 _ _ _ hf
/-! OldWeatherModel.quarrels()I -/
def fX7_quarrels_L43 (x2 : Int32) (σ : Sg) (rec4 : (Int32 × Int32) → Option Int32) (rec43 : (Int32 × Int32) → Option Int32) (s : Int32 × Int32) : Option Int32 :=
  match s with
  | (x1, x3) => if (gi σ 60 61) ≤ x3 then rec4 (x1, (x2 + 1)) else if inb x2 5 then if inb x3 5 then if inb (((((6 * x2) + x3) * 81) + (9 * (gi σ 91 x2.toNatClampNeg))) + (gi σ 91 x3.toNatClampNeg)) 2430 then rec43 ((x1 + (gi σ 90 (((((6 * x2) + x3) * 81) + (9 * (gi σ 91 x2.toNatClampNeg))) + (gi σ 91 x3.toNatClampNeg)).toNatClampNeg)), (x3 + 1)) else none else none else none
set_option maxHeartbeats 1500000 in
theorem fX7_quarrels_L43_ok (x2 : Int32) (σ : Sg) (rec4 : (Int32 × Int32) → Option Int32) (hrec4 : ∀ (y1 : Int32) (y2 : Int32) (r : Int32), rec4 (y1, y2) = some r → Go true 0 iX7_quarrels (4, [some (.ref 60), some (.int y1), some (.int y2), none], [], σ) (.inl (some (.int r)), σ)) : ∀ (n : Nat) (x1 : Int32) (x3 : Int32) (r : Int32), lp (fX7_quarrels_L43 x2 σ rec4) n (x1, x3) = some r → Go true 0 iX7_quarrels (43, [some (.ref 60), some (.int x1), some (.int x2), some (.int x3)], [], σ) (.inl (some (.int r)), σ) := by
  intro n
  induction n with
  | zero => intro x1 x3 r hf; cases hf
  | succ n ih =>
    intro x1 x3 r hf
    have hf : fX7_quarrels_L43 x2 σ rec4 (lp (fX7_quarrels_L43 x2 σ rec4) n) (x1, x3) = some r := hf
    have hrec43 := ih
    generalize lp (fX7_quarrels_L43 x2 σ rec4) n = rec43 at hf hrec43
    unfold fX7_quarrels_L43 at hf
    dsimp only at hf
    refine go_n 3 (f := (48, [some (.ref 60), some (.int x1), some (.int x2), some (.int x3)], [.int (gi σ 60 61), .int x3], σ)) rfl ?_
    by_cases h4 : (gi σ 60 61) ≤ x3
    · rw [if_pos h4] at hf
      refine go_it (t := 91) (f := 51) (L1 := [some (.ref 60), some (.int x1), some (.int x2), some (.int x3)]) (st1 := []) (σ1 := σ) rfl h4 ?_
      refine go_n 2 (f := (4, [some (.ref 60), some (.int x1), some (.int (x2 + 1)), some (.int x3)], [], σ)) rfl ?_
      refine go_e (L1 := [some (.ref 60), some (.int x1), some (.int (x2 + 1)), none]) rfl rfl ?_
      exact hrec4 _ _ _ hf
    · rw [if_neg h4] at hf
      refine go_if (t := 91) (f := 51) (L1 := [some (.ref 60), some (.int x1), some (.int x2), some (.int x3)]) (st1 := []) (σ1 := σ) rfl h4 ?_
      refine go_n 10 (f := (65, [some (.ref 60), some (.int x1), some (.int x2), some (.int x3)], [.int (((6 * x2) + x3) * 81), .ref 90, .int x1], σ)) rfl ?_
      refine go_n 4 (f := (72, [some (.ref 60), some (.int x1), some (.int x2), some (.int x3)], [.int x2, .ref 91, .int 9, .int (((6 * x2) + x3) * 81), .ref 90, .int x1], σ)) rfl ?_
      obtain ⟨h5, hf⟩ := grd hf
      refine go_iald rfl rfl rfl h5 ?_
      refine go_n 5 (f := (80, [some (.ref 60), some (.int x1), some (.int x2), some (.int x3)], [.int x3, .ref 91, .int ((((6 * x2) + x3) * 81) + (9 * (gi σ 91 x2.toNatClampNeg))), .ref 90, .int x1], σ)) rfl ?_
      obtain ⟨h6, hf⟩ := grd hf
      refine go_iald rfl rfl rfl h6 ?_
      refine go_n 1 (f := (82, [some (.ref 60), some (.int x1), some (.int x2), some (.int x3)], [.int (((((6 * x2) + x3) * 81) + (9 * (gi σ 91 x2.toNatClampNeg))) + (gi σ 91 x3.toNatClampNeg)), .ref 90, .int x1], σ)) rfl ?_
      obtain ⟨h7, hf⟩ := grd hf
      refine go_iald rfl rfl rfl h7 ?_
      refine go_n 3 (f := (88, [some (.ref 60), some (.int (x1 + (gi σ 90 (((((6 * x2) + x3) * 81) + (9 * (gi σ 91 x2.toNatClampNeg))) + (gi σ 91 x3.toNatClampNeg)).toNatClampNeg))), some (.int x2), some (.int (x3 + 1))], [], σ)) rfl ?_
      refine go_n 1 (f := (43, [some (.ref 60), some (.int (x1 + (gi σ 90 (((((6 * x2) + x3) * 81) + (9 * (gi σ 91 x2.toNatClampNeg))) + (gi σ 91 x3.toNatClampNeg)).toNatClampNeg))), some (.int x2), some (.int (x3 + 1))], [], σ)) rfl ?_
      exact hrec43 _ _ _ hf
def fX7_quarrels_L4  (σ : Sg)  (rec4 : (Int32 × Int32) → Option Int32) (s : Int32 × Int32) : Option Int32 :=
  match s with
  | (x1, x2) => if (gi σ 60 61) ≤ x2 then some x1 else if inb x2 5 then if inb ((((6 * x2) + 5) * 81) + (9 * (gi σ 91 x2.toNatClampNeg))) 2430 then lp (fX7_quarrels_L43 x2 σ rec4) N0 ((x1 + (gi σ 90 ((((6 * x2) + 5) * 81) + (9 * (gi σ 91 x2.toNatClampNeg))).toNatClampNeg)), (x2 + 1)) else none else none
set_option maxHeartbeats 1500000 in
theorem fX7_quarrels_L4_ok  (σ : Sg)   : ∀ (n : Nat) (x1 : Int32) (x2 : Int32) (r : Int32), lp (fX7_quarrels_L4  σ ) n (x1, x2) = some r → Go true 0 iX7_quarrels (4, [some (.ref 60), some (.int x1), some (.int x2), none], [], σ) (.inl (some (.int r)), σ) := by
  intro n
  induction n with
  | zero => intro x1 x2 r hf; cases hf
  | succ n ih =>
    intro x1 x2 r hf
    have hf : fX7_quarrels_L4  σ  (lp (fX7_quarrels_L4  σ ) n) (x1, x2) = some r := hf
    have hrec4 := ih
    generalize lp (fX7_quarrels_L4  σ ) n = rec4 at hf hrec4
    unfold fX7_quarrels_L4 at hf
    dsimp only at hf
    refine go_n 3 (f := (9, [some (.ref 60), some (.int x1), some (.int x2), none], [.int (gi σ 60 61), .int x2], σ)) rfl ?_
    by_cases h1 : (gi σ 60 61) ≤ x2
    · rw [if_pos h1] at hf
      refine go_it (t := 97) (f := 12) (L1 := [some (.ref 60), some (.int x1), some (.int x2), none]) (st1 := []) (σ1 := σ) rfl h1 ?_
      refine go_n 1 (f := (98, [some (.ref 60), some (.int x1), some (.int x2), none], [.int x1], σ)) rfl ?_
      cases hf
      exact go_r rfl
    · rw [if_neg h1] at hf
      refine go_if (t := 97) (f := 12) (L1 := [some (.ref 60), some (.int x1), some (.int x2), none]) (st1 := []) (σ1 := σ) rfl h1 ?_
      refine go_n 10 (f := (26, [some (.ref 60), some (.int x1), some (.int x2), none], [.int (((6 * x2) + 5) * 81), .ref 90, .int x1], σ)) rfl ?_
      refine go_n 4 (f := (33, [some (.ref 60), some (.int x1), some (.int x2), none], [.int x2, .ref 91, .int 9, .int (((6 * x2) + 5) * 81), .ref 90, .int x1], σ)) rfl ?_
      obtain ⟨h2, hf⟩ := grd hf
      refine go_iald rfl rfl rfl h2 ?_
      refine go_n 2 (f := (36, [some (.ref 60), some (.int x1), some (.int x2), none], [.int ((((6 * x2) + 5) * 81) + (9 * (gi σ 91 x2.toNatClampNeg))), .ref 90, .int x1], σ)) rfl ?_
      obtain ⟨h3, hf⟩ := grd hf
      refine go_iald rfl rfl rfl h3 ?_
      refine go_n 6 (f := (43, [some (.ref 60), some (.int (x1 + (gi σ 90 ((((6 * x2) + 5) * 81) + (9 * (gi σ 91 x2.toNatClampNeg))).toNatClampNeg))), some (.int x2), some (.int (x2 + 1))], [], σ)) rfl ?_
      exact fX7_quarrels_L43_ok _ _ _ hrec4 N0 _ _ _ hf
def fX7_quarrels  (σ : Sg) : Option Int32 :=
  lp (fX7_quarrels_L4  σ ) N0 (0, 0)
set_option maxHeartbeats 1500000 in
theorem fX7_quarrels_ok  (σ : Sg) (r : Int32) (hf : fX7_quarrels  σ = some r) : Cl true 0 12158 [.ref 60] σ (.inl (some (.int r)), σ) := by
  refine ⟨iX7_quarrels, rfl, Nat.le_of_ble_eq_true rfl, Nat.le_of_ble_eq_true rfl, ?_⟩
  show Go true 0 iX7_quarrels (0, [some (.ref 60), none, none, none], [], σ) (.inl (some (.int r)), σ)
  unfold fX7_quarrels at hf
  refine go_n 4 (f := (4, [some (.ref 60), some (.int 0), some (.int 0), none], [], σ)) rfl ?_
  exact fX7_quarrels_L4_ok  _   N0 _ _ _ hf
/-! OldWeatherModel.chosen(I)I -/
def fX7_chosen (x1 : Int32) (σ : Sg) : Option (Int32 × Sg) :=
  if (gi σ 60 63) ≠ 0 then if x1 ≠ (-1) then (fX7_in x1.toInt64 0 ((gi σ 60 64).toInt64 - 1)).bind fun q3 => if q3 = 0 then some ((-1), (wi σ 60 0 0)) else if inb x1 5 then some ((gi σ 85 x1.toNatClampNeg), (wi σ 60 0 0)) else none else some ((gi σ 60 67), (wi σ 60 0 0)) else some ((-1), (wi σ 60 0 0))
set_option maxHeartbeats 1500000 in
theorem fX7_chosen_ok (x1 : Int32) (σ : Sg) (r : (Int32 × Sg)) (hf : fX7_chosen x1 σ = some r) : Cl true 1 12159 [.ref 60, .int x1] σ (.inl (some (.int (r).1)), (r).2) := by
  refine ⟨iX7_chosen, rfl, Nat.le_of_ble_eq_true rfl, Nat.le_of_ble_eq_true rfl, ?_⟩
  show Go true 1 iX7_chosen (0, [some (.ref 60), some (.int x1)], [], σ) (.inl (some (.int (r).1)), (r).2)
  unfold fX7_chosen at hf
  refine go_n 5 (f := (9, [some (.ref 60), some (.int x1)], [.int (gi σ 60 63)], (wi σ 60 0 0))) rfl ?_
  by_cases h1 : (gi σ 60 63) ≠ 0
  · rw [if_pos h1] at hf
    refine go_it (t := 16) (f := 12) (L1 := [some (.ref 60), some (.int x1)]) (st1 := []) (σ1 := (wi σ 60 0 0)) rfl h1 ?_
    refine go_n 2 (f := (18, [some (.ref 60), some (.int x1)], [.int (-1), .int x1], (wi σ 60 0 0))) rfl ?_
    by_cases h2 : x1 ≠ (-1)
    · rw [if_pos h2] at hf
      refine go_it (t := 28) (f := 21) (L1 := [some (.ref 60), some (.int x1)]) (st1 := []) (σ1 := (wi σ 60 0 0)) rfl h2 ?_
      refine go_n 8 (f := (38, [some (.ref 60), some (.int x1)], [.long ((gi σ 60 64).toInt64 - 1), .long 0, .long x1.toInt64], (wi σ 60 0 0))) rfl ?_
      obtain ⟨q3, h4, hf⟩ := bnd hf
      refine go_c (mid := 12034) (args := [.long x1.toInt64, .long 0, .long ((gi σ 60 64).toInt64 - 1)]) (pc := 41) (L := [some (.ref 60), some (.int x1)]) (st := []) (σ := (wi σ 60 0 0)) rfl ((fX7_in_ok _ _ _ _ q3 h4).deep (Nat.le_of_ble_eq_true rfl)) ?_
      by_cases h5 : q3 = 0
      · rw [if_pos h5] at hf
        refine go_it (t := 53) (f := 44) (L1 := [some (.ref 60), some (.int x1)]) (st1 := []) (σ1 := (wi σ 60 0 0)) rfl h5 ?_
        refine go_n 1 (f := (54, [some (.ref 60), some (.int x1)], [.int (-1)], (wi σ 60 0 0))) rfl ?_
        refine go_e (L1 := [none, none]) rfl rfl ?_
        cases hf
        exact go_r rfl
      · rw [if_neg h5] at hf
        refine go_if (t := 53) (f := 44) (L1 := [some (.ref 60), some (.int x1)]) (st1 := []) (σ1 := (wi σ 60 0 0)) rfl h5 ?_
        refine go_n 3 (f := (49, [some (.ref 60), some (.int x1)], [.int x1, .ref 85], (wi σ 60 0 0))) rfl ?_
        obtain ⟨h6, hf⟩ := grd hf
        refine go_iald rfl rfl rfl h6 ?_
        refine go_n 1 (f := (54, [some (.ref 60), some (.int x1)], [.int (gi σ 85 x1.toNatClampNeg)], (wi σ 60 0 0))) rfl ?_
        refine go_e (L1 := [none, none]) rfl rfl ?_
        cases hf
        exact go_r rfl
    · rw [if_neg h2] at hf
      refine go_if (t := 28) (f := 21) (L1 := [some (.ref 60), some (.int x1)]) (st1 := []) (σ1 := (wi σ 60 0 0)) rfl h2 ?_
      refine go_n 3 (f := (54, [some (.ref 60), some (.int x1)], [.int (gi σ 60 67)], (wi σ 60 0 0))) rfl ?_
      refine go_e (L1 := [none, none]) rfl rfl ?_
      cases hf
      exact go_r rfl
  · rw [if_neg h1] at hf
    refine go_if (t := 16) (f := 12) (L1 := [some (.ref 60), some (.int x1)]) (st1 := []) (σ1 := (wi σ 60 0 0)) rfl h1 ?_
    refine go_n 2 (f := (54, [some (.ref 60), some (.int x1)], [.int (-1)], (wi σ 60 0 0))) rfl ?_
    refine go_e (L1 := [none, none]) rfl rfl ?_
    cases hf
    exact go_r rfl
/-! OldWeatherModel.isWinter(I)Z -/
def fX7_isWinter (x0 : Int32) : Option Int32 :=
  (fX7_in x0.toInt64 1601 1900).bind fun q1 => if am_ok 3 q1 = true then some q1 else none
set_option maxHeartbeats 1500000 in
theorem fX7_isWinter_ok (x0 : Int32) (σ : Sg) (r : Int32) (hf : fX7_isWinter x0 = some r) : Cl true 1 12163 [.int x0] σ (.inl (some (.int r)), σ) := by
  refine ⟨iX7_isWinter, rfl, Nat.le_of_ble_eq_true rfl, Nat.le_of_ble_eq_true rfl, ?_⟩
  show Go true 1 iX7_isWinter (0, [some (.int x0)], [], σ) (.inl (some (.int r)), σ)
  unfold fX7_isWinter at hf
  refine go_n 4 (f := (8, [some (.int x0)], [.long 1900, .long 1601, .long x0.toInt64], σ)) rfl ?_
  obtain ⟨q1, h2, hf⟩ := bnd hf
  refine go_c (mid := 12034) (args := [.long x0.toInt64, .long 1601, .long 1900]) (pc := 11) (L := [some (.int x0)]) (st := []) (σ := σ) rfl ((fX7_in_ok _ _ _ _ q1 h2).deep (Nat.le_of_ble_eq_true rfl)) ?_
  obtain ⟨h3, hf⟩ := grd hf
  cases hf
  exact go_ret rfl rfl (Or.inr (Or.inl ⟨rfl, h3⟩))
/-! OldWeatherModel.offer(IIIII)I -/
def fX7_offer_J58   (σ : Sg) : Option (Int32 × Sg) :=
  (fX7_told (-1) σ).bind fun q4 => some (q4.1, q4.2)
set_option maxHeartbeats 1500000 in
theorem fX7_offer_J58_ok   (σ : Sg)  (r : (Int32 × Sg)) (hf : fX7_offer_J58   σ = some r) : Go true 2 iX7_offer (58, [some (.ref 60), none, none, none, none, none, none], [], σ) (.inl (some (.int (r).1)), (r).2) := by
  unfold fX7_offer_J58 at hf
  refine go_n 2 (f := (60, [some (.ref 60), none, none, none, none, none, none], [.int (-1), .ref 60], σ)) rfl ?_
  obtain ⟨q4, h5, hf⟩ := bnd hf
  refine go_c (mid := 12035) (args := [.ref 60, .int (-1)]) (pc := 63) (L := [some (.ref 60), none, none, none, none, none, none]) (st := []) (σ := σ) rfl ((fX7_told_ok _ _ q4 h5).deep (Nat.le_of_ble_eq_true rfl)) ?_
  cases hf
  exact go_r rfl
def fX7_offer (x1 : Int32) (x2 : Int32) (x3 : Int32) (x4 : Int32) (x5 : Int32) (σ : Sg) : Option (Int32 × Sg) :=
  (fX7_isDay x3).bind fun q1 => if q1 = 0 then fX7_offer_J58   (wi σ 60 0 0) else (fX7_in x2.toInt64 0 x3.toInt64).bind fun q6 => if q6 = 0 then fX7_offer_J58   (wi σ 60 0 0) else if 200 ≤ (x3 - x2) then fX7_offer_J58   (wi σ 60 0 0) else (fX7_in x4.toInt64 0 2000).bind fun q10 => if q10 = 0 then fX7_offer_J58   (wi σ 60 0 0) else (fX7_in x5.toInt64 1 100).bind fun q13 => if q13 ≠ 0 then (fX7_isPlace x1 (wi σ 60 0 0)).bind fun q16 => if q16 ≠ 0 then if (gi σ 61 5) ≠ 10 then (fX7_addFour (21588 + (5 * (gi σ 61 5))) x1 x2 x3 x4 (wi σ 60 0 0)).bind fun q20 => if inb ((21588 + (5 * (gi σ 61 5))) + 4) 39698 then (fX7_told ((gi (wi q20 61 ((21588 + (5 * (gi σ 61 5))) + 4).toNatClampNeg x5) 61 5) + 1) (wi (wi q20 61 ((21588 + (5 * (gi σ 61 5))) + 4).toNatClampNeg x5) 61 5 ((gi (wi q20 61 ((21588 + (5 * (gi σ 61 5))) + 4).toNatClampNeg x5) 61 5) + 1))).bind fun q23 => some (q23.1, q23.2) else none else (fX7_told (-5) (wi σ 60 0 0)).bind fun q25 => some (q25.1, q25.2) else (fX7_told (-2) (wi σ 60 0 0)).bind fun q27 => some (q27.1, q27.2) else fX7_offer_J58   (wi σ 60 0 0)
set_option maxHeartbeats 1500000 in
theorem fX7_offer_ok (x1 : Int32) (x2 : Int32) (x3 : Int32) (x4 : Int32) (x5 : Int32) (σ : Sg) (r : (Int32 × Sg)) (hf : fX7_offer x1 x2 x3 x4 x5 σ = some r) : Cl true 2 12168 [.ref 60, .int x1, .int x2, .int x3, .int x4, .int x5] σ (.inl (some (.int (r).1)), (r).2) := by
  refine ⟨iX7_offer, rfl, Nat.le_of_ble_eq_true rfl, Nat.le_of_ble_eq_true rfl, ?_⟩
  show Go true 2 iX7_offer (0, [some (.ref 60), some (.int x1), some (.int x2), some (.int x3), some (.int x4), some (.int x5), none], [], σ) (.inl (some (.int (r).1)), (r).2)
  unfold fX7_offer at hf
  refine go_n 4 (f := (6, [some (.ref 60), some (.int x1), some (.int x2), some (.int x3), some (.int x4), some (.int x5), none], [.int x3], (wi σ 60 0 0))) rfl ?_
  obtain ⟨q1, h2, hf⟩ := bnd hf
  refine go_c (mid := 12042) (args := [.int x3]) (pc := 9) (L := [some (.ref 60), some (.int x1), some (.int x2), some (.int x3), some (.int x4), some (.int x5), none]) (st := []) (σ := (wi σ 60 0 0)) rfl ((fX7_isDay_ok _ _ q1 h2).deep (Nat.le_of_ble_eq_true rfl)) ?_
  by_cases h3 : q1 = 0
  · rw [if_pos h3] at hf
    refine go_it (t := 58) (f := 12) (L1 := [some (.ref 60), some (.int x1), some (.int x2), some (.int x3), some (.int x4), some (.int x5), none]) (st1 := []) (σ1 := (wi σ 60 0 0)) rfl h3 ?_
    refine go_e (L1 := [some (.ref 60), none, none, none, none, none, none]) rfl rfl ?_
    exact fX7_offer_J58_ok   _  _ hf
  · rw [if_neg h3] at hf
    refine go_if (t := 58) (f := 12) (L1 := [some (.ref 60), some (.int x1), some (.int x2), some (.int x3), some (.int x4), some (.int x5), none]) (st1 := []) (σ1 := (wi σ 60 0 0)) rfl h3 ?_
    refine go_n 5 (f := (17, [some (.ref 60), some (.int x1), some (.int x2), some (.int x3), some (.int x4), some (.int x5), none], [.long x3.toInt64, .long 0, .long x2.toInt64], (wi σ 60 0 0))) rfl ?_
    obtain ⟨q6, h7, hf⟩ := bnd hf
    refine go_c (mid := 12034) (args := [.long x2.toInt64, .long 0, .long x3.toInt64]) (pc := 20) (L := [some (.ref 60), some (.int x1), some (.int x2), some (.int x3), some (.int x4), some (.int x5), none]) (st := []) (σ := (wi σ 60 0 0)) rfl ((fX7_in_ok _ _ _ _ q6 h7).deep (Nat.le_of_ble_eq_true rfl)) ?_
    by_cases h8 : q6 = 0
    · rw [if_pos h8] at hf
      refine go_it (t := 58) (f := 23) (L1 := [some (.ref 60), some (.int x1), some (.int x2), some (.int x3), some (.int x4), some (.int x5), none]) (st1 := []) (σ1 := (wi σ 60 0 0)) rfl h8 ?_
      refine go_e (L1 := [some (.ref 60), none, none, none, none, none, none]) rfl rfl ?_
      exact fX7_offer_J58_ok   _  _ hf
    · rw [if_neg h8] at hf
      refine go_if (t := 58) (f := 23) (L1 := [some (.ref 60), some (.int x1), some (.int x2), some (.int x3), some (.int x4), some (.int x5), none]) (st1 := []) (σ1 := (wi σ 60 0 0)) rfl h8 ?_
      refine go_n 4 (f := (29, [some (.ref 60), some (.int x1), some (.int x2), some (.int x3), some (.int x4), some (.int x5), none], [.int 200, .int (x3 - x2)], (wi σ 60 0 0))) rfl ?_
      by_cases h9 : 200 ≤ (x3 - x2)
      · rw [if_pos h9] at hf
        refine go_it (t := 58) (f := 32) (L1 := [some (.ref 60), some (.int x1), some (.int x2), some (.int x3), some (.int x4), some (.int x5), none]) (st1 := []) (σ1 := (wi σ 60 0 0)) rfl h9 ?_
        refine go_e (L1 := [some (.ref 60), none, none, none, none, none, none]) rfl rfl ?_
        exact fX7_offer_J58_ok   _  _ hf
      · rw [if_neg h9] at hf
        refine go_if (t := 58) (f := 32) (L1 := [some (.ref 60), some (.int x1), some (.int x2), some (.int x3), some (.int x4), some (.int x5), none]) (st1 := []) (σ1 := (wi σ 60 0 0)) rfl h9 ?_
        refine go_n 4 (f := (39, [some (.ref 60), some (.int x1), some (.int x2), some (.int x3), some (.int x4), some (.int x5), none], [.long 2000, .long 0, .long x4.toInt64], (wi σ 60 0 0))) rfl ?_
        obtain ⟨q10, h11, hf⟩ := bnd hf
        refine go_c (mid := 12034) (args := [.long x4.toInt64, .long 0, .long 2000]) (pc := 42) (L := [some (.ref 60), some (.int x1), some (.int x2), some (.int x3), some (.int x4), some (.int x5), none]) (st := []) (σ := (wi σ 60 0 0)) rfl ((fX7_in_ok _ _ _ _ q10 h11).deep (Nat.le_of_ble_eq_true rfl)) ?_
        by_cases h12 : q10 = 0
        · rw [if_pos h12] at hf
          refine go_it (t := 58) (f := 45) (L1 := [some (.ref 60), some (.int x1), some (.int x2), some (.int x3), some (.int x4), some (.int x5), none]) (st1 := []) (σ1 := (wi σ 60 0 0)) rfl h12 ?_
          refine go_e (L1 := [some (.ref 60), none, none, none, none, none, none]) rfl rfl ?_
          exact fX7_offer_J58_ok   _  _ hf
        · rw [if_neg h12] at hf
          refine go_if (t := 58) (f := 45) (L1 := [some (.ref 60), some (.int x1), some (.int x2), some (.int x3), some (.int x4), some (.int x5), none]) (st1 := []) (σ1 := (wi σ 60 0 0)) rfl h12 ?_
          refine go_n 4 (f := (52, [some (.ref 60), some (.int x1), some (.int x2), some (.int x3), some (.int x4), some (.int x5), none], [.long 100, .long 1, .long x5.toInt64], (wi σ 60 0 0))) rfl ?_
          obtain ⟨q13, h14, hf⟩ := bnd hf
          refine go_c (mid := 12034) (args := [.long x5.toInt64, .long 1, .long 100]) (pc := 55) (L := [some (.ref 60), some (.int x1), some (.int x2), some (.int x3), some (.int x4), some (.int x5), none]) (st := []) (σ := (wi σ 60 0 0)) rfl ((fX7_in_ok _ _ _ _ q13 h14).deep (Nat.le_of_ble_eq_true rfl)) ?_
          by_cases h15 : q13 ≠ 0
          · rw [if_pos h15] at hf
            refine go_it (t := 64) (f := 58) (L1 := [some (.ref 60), some (.int x1), some (.int x2), some (.int x3), some (.int x4), some (.int x5), none]) (st1 := []) (σ1 := (wi σ 60 0 0)) rfl h15 ?_
            refine go_n 2 (f := (66, [some (.ref 60), some (.int x1), some (.int x2), some (.int x3), some (.int x4), some (.int x5), none], [.int x1, .ref 60], (wi σ 60 0 0))) rfl ?_
            obtain ⟨q16, h17, hf⟩ := bnd hf
            refine go_c (mid := 12048) (args := [.ref 60, .int x1]) (pc := 69) (L := [some (.ref 60), some (.int x1), some (.int x2), some (.int x3), some (.int x4), some (.int x5), none]) (st := []) (σ := (wi σ 60 0 0)) rfl ((fX7_isPlace_ok _ _ q16 h17).deep (Nat.le_of_ble_eq_true rfl)) ?_
            by_cases h18 : q16 ≠ 0
            · rw [if_pos h18] at hf
              refine go_it (t := 79) (f := 72) (L1 := [some (.ref 60), some (.int x1), some (.int x2), some (.int x3), some (.int x4), some (.int x5), none]) (st1 := []) (σ1 := (wi σ 60 0 0)) rfl h18 ?_
              refine go_n 5 (f := (87, [some (.ref 60), some (.int x1), some (.int x2), some (.int x3), some (.int x4), some (.int x5), none], [.int 10, .int (gi σ 61 5)], (wi σ 60 0 0))) rfl ?_
              by_cases h19 : (gi σ 61 5) ≠ 10
              · rw [if_pos h19] at hf
                refine go_it (t := 97) (f := 90) (L1 := [some (.ref 60), some (.int x1), some (.int x2), some (.int x3), some (.int x4), some (.int x5), none]) (st1 := []) (σ1 := (wi σ 60 0 0)) rfl h19 ?_
                refine go_n 10 (f := (112, [some (.ref 60), some (.int x1), some (.int x2), some (.int x3), some (.int x4), some (.int x5), some (.int (21588 + (5 * (gi σ 61 5))))], [.ref 60], (wi σ 60 0 0))) rfl ?_
                refine go_n 5 (f := (119, [some (.ref 60), some (.int x1), some (.int x2), some (.int x3), some (.int x4), some (.int x5), some (.int (21588 + (5 * (gi σ 61 5))))], [.int x4, .int x3, .int x2, .int x1, .int (21588 + (5 * (gi σ 61 5))), .ref 60], (wi σ 60 0 0))) rfl ?_
                obtain ⟨q20, h21, hf⟩ := bnd hf
                refine go_c (mid := 12051) (args := [.ref 60, .int (21588 + (5 * (gi σ 61 5))), .int x1, .int x2, .int x3, .int x4]) (pc := 122) (L := [some (.ref 60), some (.int x1), some (.int x2), some (.int x3), some (.int x4), some (.int x5), some (.int (21588 + (5 * (gi σ 61 5))))]) (st := []) (σ := (wi σ 60 0 0)) rfl ((fX7_addFour_ok _ _ _ _ _ _ q20 h21).deep (Nat.le_of_ble_eq_true rfl)) ?_
                refine go_n 6 (f := (132, [some (.ref 60), some (.int x1), some (.int x2), some (.int x3), some (.int x4), some (.int x5), some (.int (21588 + (5 * (gi σ 61 5))))], [.int x5, .int ((21588 + (5 * (gi σ 61 5))) + 4), .ref 61], q20)) rfl ?_
                obtain ⟨h22, hf⟩ := grd hf
                refine go_iast rfl rfl rfl h22 ?_
                refine go_n 10 (f := (145, [some (.ref 60), some (.int x1), some (.int x2), some (.int x3), some (.int x4), some (.int x5), some (.int (21588 + (5 * (gi σ 61 5))))], [.ref 60, .ref 60], (wi (wi q20 61 ((21588 + (5 * (gi σ 61 5))) + 4).toNatClampNeg x5) 61 5 ((gi (wi q20 61 ((21588 + (5 * (gi σ 61 5))) + 4).toNatClampNeg x5) 61 5) + 1)))) rfl ?_
                refine go_n 3 (f := (150, [some (.ref 60), some (.int x1), some (.int x2), some (.int x3), some (.int x4), some (.int x5), some (.int (21588 + (5 * (gi σ 61 5))))], [.int ((gi (wi q20 61 ((21588 + (5 * (gi σ 61 5))) + 4).toNatClampNeg x5) 61 5) + 1), .ref 60], (wi (wi q20 61 ((21588 + (5 * (gi σ 61 5))) + 4).toNatClampNeg x5) 61 5 ((gi (wi q20 61 ((21588 + (5 * (gi σ 61 5))) + 4).toNatClampNeg x5) 61 5) + 1)))) rfl ?_
                obtain ⟨q23, h24, hf⟩ := bnd hf
                refine go_c (mid := 12035) (args := [.ref 60, .int ((gi (wi q20 61 ((21588 + (5 * (gi σ 61 5))) + 4).toNatClampNeg x5) 61 5) + 1)]) (pc := 153) (L := [some (.ref 60), some (.int x1), some (.int x2), some (.int x3), some (.int x4), some (.int x5), some (.int (21588 + (5 * (gi σ 61 5))))]) (st := []) (σ := (wi (wi q20 61 ((21588 + (5 * (gi σ 61 5))) + 4).toNatClampNeg x5) 61 5 ((gi (wi q20 61 ((21588 + (5 * (gi σ 61 5))) + 4).toNatClampNeg x5) 61 5) + 1))) rfl ((fX7_told_ok _ _ q23 h24).deep (Nat.le_of_ble_eq_true rfl)) ?_
                cases hf
                exact go_r rfl
              · rw [if_neg h19] at hf
                refine go_if (t := 97) (f := 90) (L1 := [some (.ref 60), some (.int x1), some (.int x2), some (.int x3), some (.int x4), some (.int x5), none]) (st1 := []) (σ1 := (wi σ 60 0 0)) rfl h19 ?_
                refine go_n 2 (f := (93, [some (.ref 60), some (.int x1), some (.int x2), some (.int x3), some (.int x4), some (.int x5), none], [.int (-5), .ref 60], (wi σ 60 0 0))) rfl ?_
                obtain ⟨q25, h26, hf⟩ := bnd hf
                refine go_c (mid := 12035) (args := [.ref 60, .int (-5)]) (pc := 96) (L := [some (.ref 60), some (.int x1), some (.int x2), some (.int x3), some (.int x4), some (.int x5), none]) (st := []) (σ := (wi σ 60 0 0)) rfl ((fX7_told_ok _ _ q25 h26).deep (Nat.le_of_ble_eq_true rfl)) ?_
                cases hf
                exact go_r rfl
            · rw [if_neg h18] at hf
              refine go_if (t := 79) (f := 72) (L1 := [some (.ref 60), some (.int x1), some (.int x2), some (.int x3), some (.int x4), some (.int x5), none]) (st1 := []) (σ1 := (wi σ 60 0 0)) rfl h18 ?_
              refine go_n 2 (f := (75, [some (.ref 60), some (.int x1), some (.int x2), some (.int x3), some (.int x4), some (.int x5), none], [.int (-2), .ref 60], (wi σ 60 0 0))) rfl ?_
              obtain ⟨q27, h28, hf⟩ := bnd hf
              refine go_c (mid := 12035) (args := [.ref 60, .int (-2)]) (pc := 78) (L := [some (.ref 60), some (.int x1), some (.int x2), some (.int x3), some (.int x4), some (.int x5), none]) (st := []) (σ := (wi σ 60 0 0)) rfl ((fX7_told_ok _ _ q27 h28).deep (Nat.le_of_ble_eq_true rfl)) ?_
              cases hf
              exact go_r rfl
          · rw [if_neg h15] at hf
            refine go_if (t := 64) (f := 58) (L1 := [some (.ref 60), some (.int x1), some (.int x2), some (.int x3), some (.int x4), some (.int x5), none]) (st1 := []) (σ1 := (wi σ 60 0 0)) rfl h15 ?_
            refine go_e (L1 := [some (.ref 60), none, none, none, none, none, none]) rfl rfl ?_
            exact fX7_offer_J58_ok   _  _ hf
