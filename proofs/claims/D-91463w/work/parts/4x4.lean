set_option maxRecDepth 100000
/-! OldWeather.bounds(III)Z -/
def fX0_bounds_J351 (x3 : Int32) (x4 : Int32) (x6 : Int32) (s0 : Int32)  (σ : Sg) : Option (Int32 × Sg) :=
  if s0 = (-1) then if inb x4 200 then (fX0_in (gi σ 18 x4.toNatClampNeg) 0 19).bind fun q27 => if q27 = 0 then some (0, (wi σ 0 16 s0)) else if inb x4 200 then (fX0_learns x6 (gi σ 18 x4.toNatClampNeg) x3 (wi σ 0 16 s0)).bind fun q31 => if q31.1 = 0 then some (0, q31.2) else (fX0_spans (gl q31.2 0 19) (gl q31.2 0 20) q31.2).bind fun q34 => ((fun (z37 : Int32) => some (z37, q34.2)) ((if q34.1 = 0 then 0 else 1) : Int32)) else none else none else (fX0_spans (gl σ 33 0) (gl σ 33 1) (wi σ 0 16 s0)).bind fun q39 => if am_ok 3 q39.1 = true then some (q39.1, q39.2) else none
set_option maxHeartbeats 1500000 in
theorem fX0_bounds_J351_ok (x3 : Int32) (x4 : Int32) (x6 : Int32) (s0 : Int32)  (σ : Sg)  (r : (Int32 × Sg)) (hf : fX0_bounds_J351 x3 x4 x6 s0  σ = some r) : Go true 3246 iX0_bounds (351, [some (.ref 0), none, none, some (.int x3), some (.int x4), none, some (.int x6), none, none, none], [.int s0, .ref 0], σ) (.inl (some (.int (r).1)), (r).2) := by
  unfold fX0_bounds_J351 at hf
  refine go_n 4 (f := (359, [some (.ref 0), none, none, some (.int x3), some (.int x4), none, some (.int x6), none, none, none], [.int (-1), .int s0], (wi σ 0 16 s0))) rfl ?_
  by_cases h25 : s0 = (-1)
  · rw [if_pos h25] at hf
    refine go_it (t := 379) (f := 362) (L1 := [some (.ref 0), none, none, some (.int x3), some (.int x4), none, some (.int x6), none, none, none]) (st1 := []) (σ1 := (wi σ 0 16 s0)) rfl h25 ?_
    refine go_n 4 (f := (388, [some (.ref 0), none, none, some (.int x3), some (.int x4), none, some (.int x6), none, none, none], [.int x4, .ref 18], (wi σ 0 16 s0))) rfl ?_
    obtain ⟨h26, hf⟩ := grd hf
    refine go_iald rfl rfl rfl h26 ?_
    refine go_n 2 (f := (392, [some (.ref 0), none, none, some (.int x3), some (.int x4), none, some (.int x6), none, none, none], [.int 19, .int 0, .int (gi σ 18 x4.toNatClampNeg)], (wi σ 0 16 s0))) rfl ?_
    obtain ⟨q27, h28, hf⟩ := bnd hf
    refine go_c (mid := 5122) (args := [.int (gi σ 18 x4.toNatClampNeg), .int 0, .int 19]) (pc := 395) (L := [some (.ref 0), none, none, some (.int x3), some (.int x4), none, some (.int x6), none, none, none]) (st := []) (σ := (wi σ 0 16 s0)) rfl ((fX0_in_ok _ _ _ _ q27 h28).deep (Nat.le_of_ble_eq_true rfl)) ?_
    by_cases h29 : q27 = 0
    · rw [if_pos h29] at hf
      refine go_it (t := 437) (f := 398) (L1 := [some (.ref 0), none, none, some (.int x3), some (.int x4), none, some (.int x6), none, none, none]) (st1 := []) (σ1 := (wi σ 0 16 s0)) rfl h29 ?_
      refine go_e (L1 := [none, none, none, none, none, none, none, none, none, none]) rfl rfl ?_
      refine go_n 1 (f := (438, [none, none, none, none, none, none, none, none, none, none], [.int 0], (wi σ 0 16 s0))) rfl ?_
      cases hf
      exact go_r rfl
    · rw [if_neg h29] at hf
      refine go_if (t := 437) (f := 398) (L1 := [some (.ref 0), none, none, some (.int x3), some (.int x4), none, some (.int x6), none, none, none]) (st1 := []) (σ1 := (wi σ 0 16 s0)) rfl h29 ?_
      refine go_n 6 (f := (410, [some (.ref 0), none, none, some (.int x3), some (.int x4), none, some (.int x6), none, none, none], [.int x4, .ref 18, .int x6, .ref 0], (wi σ 0 16 s0))) rfl ?_
      obtain ⟨h30, hf⟩ := grd hf
      refine go_iald rfl rfl rfl h30 ?_
      refine go_n 1 (f := (412, [some (.ref 0), none, none, some (.int x3), some (.int x4), none, some (.int x6), none, none, none], [.int x3, .int (gi σ 18 x4.toNatClampNeg), .int x6, .ref 0], (wi σ 0 16 s0))) rfl ?_
      obtain ⟨q31, h32, hf⟩ := bnd hf
      refine go_c (mid := 5173) (args := [.ref 0, .int x6, .int (gi σ 18 x4.toNatClampNeg), .int x3]) (pc := 415) (L := [some (.ref 0), none, none, some (.int x3), some (.int x4), none, some (.int x6), none, none, none]) (st := []) (σ := (wi σ 0 16 s0)) rfl ((fX0_learns_ok _ _ _ _ q31 h32).deep (Nat.le_of_ble_eq_true rfl)) ?_
      by_cases h33 : q31.1 = 0
      · rw [if_pos h33] at hf
        refine go_it (t := 437) (f := 418) (L1 := [some (.ref 0), none, none, some (.int x3), some (.int x4), none, some (.int x6), none, none, none]) (st1 := []) (σ1 := q31.2) rfl h33 ?_
        refine go_e (L1 := [none, none, none, none, none, none, none, none, none, none]) rfl rfl ?_
        refine go_n 1 (f := (438, [none, none, none, none, none, none, none, none, none, none], [.int 0], q31.2)) rfl ?_
        cases hf
        exact go_r rfl
      · rw [if_neg h33] at hf
        refine go_if (t := 437) (f := 418) (L1 := [some (.ref 0), none, none, some (.int x3), some (.int x4), none, some (.int x6), none, none, none]) (st1 := []) (σ1 := q31.2) rfl h33 ?_
        refine go_n 5 (f := (427, [some (.ref 0), none, none, some (.int x3), some (.int x4), none, some (.int x6), none, none, none], [.long (gl q31.2 0 20), .long (gl q31.2 0 19), .ref 0], q31.2)) rfl ?_
        obtain ⟨q34, h35, hf⟩ := bnd hf
        refine go_c (mid := 5176) (args := [.ref 0, .long (gl q31.2 0 19), .long (gl q31.2 0 20)]) (pc := 430) (L := [some (.ref 0), none, none, some (.int x3), some (.int x4), none, some (.int x6), none, none, none]) (st := []) (σ := q31.2) rfl ((fX0_spans_ok _ _ _ q34 h35).deep (Nat.le_of_ble_eq_true rfl)) ?_
        refine go_m (f := (438, [none, none, none, none, none, none, none, none, none, none], [.int ((if q34.1 = 0 then 0 else 1) : Int32)], q34.2)) ?_ (fun hJ38 => ?_)
        · generalize hz37 : ((if q34.1 = 0 then 0 else 1) : Int32) = z37 at hf ⊢
          have oz37 : am_ok 3 z37 = true := hz37 ▸ (okb rfl rfl)
          try dsimp only at hf
          cases hf
          exact go_ret rfl rfl (Or.inr (Or.inl ⟨rfl, oz37⟩))
        · by_cases h36 : q34.1 = 0
          · refine go_it (t := 437) (f := 433) (L1 := [some (.ref 0), none, none, some (.int x3), some (.int x4), none, some (.int x6), none, none, none]) (st1 := []) (σ1 := q34.2) rfl h36 ?_
            refine go_e (L1 := [none, none, none, none, none, none, none, none, none, none]) rfl rfl ?_
            refine go_n 1 (f := (438, [none, none, none, none, none, none, none, none, none, none], [.int 0], q34.2)) rfl ?_
            refine go_e (L1 := [none, none, none, none, none, none, none, none, none, none]) rfl rfl ?_
            simp only [if_pos h36] at hJ38
            first | exact hJ38 | (simp only [if_pos h36]; exact hJ38)
          · refine go_if (t := 437) (f := 433) (L1 := [some (.ref 0), none, none, some (.int x3), some (.int x4), none, some (.int x6), none, none, none]) (st1 := []) (σ1 := q34.2) rfl h36 ?_
            refine go_n 2 (f := (438, [some (.ref 0), none, none, some (.int x3), some (.int x4), none, some (.int x6), none, none, none], [.int 1], q34.2)) rfl ?_
            refine go_e (L1 := [none, none, none, none, none, none, none, none, none, none]) rfl rfl ?_
            simp only [if_neg h36] at hJ38
            first | exact hJ38 | (simp only [if_neg h36]; exact hJ38)
  · rw [if_neg h25] at hf
    refine go_if (t := 379) (f := 362) (L1 := [some (.ref 0), none, none, some (.int x3), some (.int x4), none, some (.int x6), none, none, none]) (st1 := []) (σ1 := (wi σ 0 16 s0)) rfl h25 ?_
    refine go_n 9 (f := (375, [some (.ref 0), none, none, some (.int x3), some (.int x4), none, some (.int x6), none, none, none], [.long (gl σ 33 1), .long (gl σ 33 0), .ref 0], (wi σ 0 16 s0))) rfl ?_
    obtain ⟨q39, h40, hf⟩ := bnd hf
    refine go_c (mid := 5176) (args := [.ref 0, .long (gl σ 33 0), .long (gl σ 33 1)]) (pc := 378) (L := [some (.ref 0), none, none, some (.int x3), some (.int x4), none, some (.int x6), none, none, none]) (st := []) (σ := (wi σ 0 16 s0)) rfl ((fX0_spans_ok _ _ _ q39 h40).deep (Nat.le_of_ble_eq_true rfl)) ?_
    obtain ⟨h41, hf⟩ := grd hf
    cases hf
    exact go_ret rfl rfl (Or.inr (Or.inl ⟨rfl, h41⟩))
def fX0_bounds_J187 (x6 : Int64) (s0 : Int64)  (σ : Sg) : Option (Int32 × Sg) :=
  (fX0_spans (x6 - s0) (x6 + s0) σ).bind fun q68 => if am_ok 3 q68.1 = true then some (q68.1, q68.2) else none
set_option maxHeartbeats 1500000 in
theorem fX0_bounds_J187_ok (x6 : Int64) (s0 : Int64)  (σ : Sg)  (r : (Int32 × Sg)) (hf : fX0_bounds_J187 x6 s0  σ = some r) : Go true 3246 iX0_bounds (187, [some (.ref 0), none, none, none, none, none, some (.long x6), none, none, none], [.long s0], σ) (.inl (some (.int (r).1)), (r).2) := by
  unfold fX0_bounds_J187 at hf
  refine go_n 8 (f := (200, [some (.ref 0), none, none, none, none, none, some (.long x6), none, some (.long s0), none], [.long (x6 + s0), .long (x6 - s0), .ref 0], σ)) rfl ?_
  obtain ⟨q68, h69, hf⟩ := bnd hf
  refine go_c (mid := 5176) (args := [.ref 0, .long (x6 - s0), .long (x6 + s0)]) (pc := 203) (L := [some (.ref 0), none, none, none, none, none, some (.long x6), none, some (.long s0), none]) (st := []) (σ := σ) rfl ((fX0_spans_ok _ _ _ q68 h69).deep (Nat.le_of_ble_eq_true rfl)) ?_
  obtain ⟨h70, hf⟩ := grd hf
  cases hf
  exact go_ret rfl rfl (Or.inr (Or.inl ⟨rfl, h70⟩))
def fX0_bounds_L18 (x1 : Int32) (x2 : Int32) (x3 : Int32) (σ : Sg)  (rec18 : (Int32 × Int32) → Option (Int32 × Sg)) (s : Int32 × Int32) : Option (Int32 × Sg) :=
  match s with
  | (x4, x5) => (fJ2_get 2 x4 σ).bind fun q1 => if [17, 18, 19, 20, 21].elem (kk σ q1) = true then (am_kdo (kk σ q1)).bind fun q5 => if q5 ≠ 4 then (fJ2_get 2 x4 σ).bind fun q7 => if [17, 18, 19, 20, 21].elem (kk σ q7) = true then (am_hdo (kk σ q7)).bind fun q11 => if q11 ≠ 0 then (am_kdo (kk σ q7)).bind fun q14 => if q14 ≠ 1 then (am_kdo (kk σ q7)).bind fun q17 => if q17 ≠ 3 then if [17, 18, 19, 20, 21].elem (kk σ q7) = true then if inb (gi σ q7 1) 16 then if inb x4 200 then (fX0_in (gi σ 18 x4.toNatClampNeg) 0 19).bind fun q22 => if q22 = 0 then fX0_bounds_J351 x3 x4 (gi σ 14 (gi σ q7 1).toNatClampNeg) (-1)  σ else if inb x4 200 then (fX0_last 1 ((20 * (gi σ 14 (gi σ q7 1).toNatClampNeg)) + (gi σ 18 x4.toNatClampNeg)) x4 x2 x3 σ).bind fun q43 => fX0_bounds_J351 x3 x4 (gi σ 14 (gi σ q7 1).toNatClampNeg) q43.1  q43.2 else none else none else none else none else if [20].elem (kk σ q7) = true then if [20].elem (kk σ q7) = true then (fX0_last 5 (gi σ q7 6) x4 x2 x3 σ).bind fun q47 => if q47.1 = (-1) then some (0, (wi q47.2 0 16 q47.1)) else (fJ5_abs (gl q47.2 33 1)).bind fun q50 => (fJ5_abs (gl q47.2 33 1)).bind fun q52 => (fX0_spans ((gl q47.2 33 0) - q50) ((gl q47.2 33 0) + q52) (wi q47.2 0 16 q47.1)).bind fun q54 => ((fun (z57 : Int32) => some (z57, q54.2)) ((if q54.1 = 0 then 0 else 1) : Int32)) else none else none else (fX0_rightOf x4 x2 x3 σ).bind fun q59 => ((fun (z62 : Int32) => (fX0_last 2 0 x4 x2 x3 (wi q59.2 0 17 z62)).bind fun q63 => if q63.1 ≠ (-1) then (fJ5_abs (gl q63.2 33 0)).bind fun q66 => fX0_bounds_J187 q59.1 q66  (wi q63.2 0 16 q63.1) else fX0_bounds_J187 q59.1 20  (wi q63.2 0 16 q63.1)) (if x4 ≠ x1 then (-100000) else q59.1.toInt32)) else some (0, σ) else none else (fJ2_get 2 x4 σ).bind fun q72 => if [21].elem (kk σ q72) = true then if [21].elem (kk σ q72) = true then if x5 = 10 then some (0, σ) else (fX0_isKnown (gi σ q72 6) x3 σ).bind fun q77 => if q77 ≠ 0 then rec18 ((gi σ q72 6), (x5 + 1)) else some (0, σ) else none else none else none
set_option maxHeartbeats 1500000 in
theorem fX0_bounds_L18_ok (x1 : Int32) (x2 : Int32) (x3 : Int32) (σ : Sg)   : ∀ (n : Nat) (x4 : Int32) (x5 : Int32) (r : (Int32 × Sg)), lp (fX0_bounds_L18 x1 x2 x3 σ ) n (x4, x5) = some r → Go true 3246 iX0_bounds (18, [some (.ref 0), some (.int x1), some (.int x2), some (.int x3), some (.int x4), some (.int x5), none, none, none, none], [], σ) (.inl (some (.int (r).1)), (r).2) := by
  intro n
  induction n with
  | zero => intro x4 x5 r hf; cases hf
  | succ n ih =>
    intro x4 x5 r hf
    have hf : fX0_bounds_L18 x1 x2 x3 σ  (lp (fX0_bounds_L18 x1 x2 x3 σ ) n) (x4, x5) = some r := hf
    have hrec18 := ih
    generalize lp (fX0_bounds_L18 x1 x2 x3 σ ) n = rec18 at hf hrec18
    unfold fX0_bounds_L18 at hf
    dsimp only at hf
    refine go_n 4 (f := (27, [some (.ref 0), some (.int x1), some (.int x2), some (.int x3), some (.int x4), some (.int x5), none, none, none, none], [.int x4, .ref 2], σ)) rfl ?_
    obtain ⟨q1, h2, hf⟩ := bnd hf
    refine go_c (mid := 2825) (args := [.ref 2, .int x4]) (pc := 30) (L := [some (.ref 0), some (.int x1), some (.int x2), some (.int x3), some (.int x4), some (.int x5), none, none, none, none]) (st := []) (σ := σ) rfl ((fJ2_get_ok _ _ _ q1 h2).deep (Nat.le_of_ble_eq_true rfl)) ?_
    obtain ⟨h3, hf⟩ := grd hf
    refine go_cast rfl rfl rfl h3 ?_
    obtain ⟨q5, h4, hf⟩ := bnd hf
    refine go_b (mid := 20007) (args := [.ref q1]) (pc := 36) (L := [some (.ref 0), some (.int x1), some (.int x2), some (.int x3), some (.int x4), some (.int x5), none, none, none, none]) (st := []) (σ := σ) rfl (by decide) (am_bi_kdo h4) ?_
    refine go_n 1 (f := (37, [some (.ref 0), some (.int x1), some (.int x2), some (.int x3), some (.int x4), some (.int x5), none, none, none, none], [.int 4, .int q5], σ)) rfl ?_
    by_cases h6 : q5 ≠ 4
    · rw [if_pos h6] at hf
      refine go_it (t := 85) (f := 40) (L1 := [some (.ref 0), some (.int x1), some (.int x2), some (.int x3), some (.int x4), some (.int x5), none, none, none, none]) (st1 := []) (σ1 := σ) rfl h6 ?_
      refine go_n 4 (f := (94, [some (.ref 0), some (.int x1), some (.int x2), some (.int x3), some (.int x4), some (.int x5), none, none, none, none], [.int x4, .ref 2], σ)) rfl ?_
      obtain ⟨q7, h8, hf⟩ := bnd hf
      refine go_c (mid := 2825) (args := [.ref 2, .int x4]) (pc := 97) (L := [some (.ref 0), some (.int x1), some (.int x2), some (.int x3), some (.int x4), some (.int x5), none, none, none, none]) (st := []) (σ := σ) rfl ((fJ2_get_ok _ _ _ q7 h8).deep (Nat.le_of_ble_eq_true rfl)) ?_
      obtain ⟨h9, hf⟩ := grd hf
      refine go_cast rfl rfl rfl h9 ?_
      refine go_n 2 (f := (104, [some (.ref 0), some (.int x1), some (.int x2), some (.int x3), some (.int x4), some (.ref q7), none, none, none, none], [.ref q7], σ)) rfl ?_
      obtain ⟨q11, h10, hf⟩ := bnd hf
      refine go_b (mid := 20008) (args := [.ref q7]) (pc := 107) (L := [some (.ref 0), some (.int x1), some (.int x2), some (.int x3), some (.int x4), some (.ref q7), none, none, none, none]) (st := []) (σ := σ) rfl (by decide) (am_bi_hdo h10) ?_
      by_cases h12 : q11 ≠ 0
      · rw [if_pos h12] at hf
        refine go_it (t := 112) (f := 110) (L1 := [some (.ref 0), some (.int x1), some (.int x2), some (.int x3), some (.int x4), some (.ref q7), none, none, none, none]) (st1 := []) (σ1 := σ) rfl h12 ?_
        refine go_n 1 (f := (114, [some (.ref 0), some (.int x1), some (.int x2), some (.int x3), some (.int x4), some (.ref q7), none, none, none, none], [.ref q7], σ)) rfl ?_
        obtain ⟨q14, h13, hf⟩ := bnd hf
        refine go_b (mid := 20007) (args := [.ref q7]) (pc := 117) (L := [some (.ref 0), some (.int x1), some (.int x2), some (.int x3), some (.int x4), some (.ref q7), none, none, none, none]) (st := []) (σ := σ) rfl (by decide) (am_bi_kdo h13) ?_
        refine go_n 1 (f := (118, [some (.ref 0), some (.int x1), some (.int x2), some (.int x3), some (.int x4), some (.ref q7), none, none, none, none], [.int 1, .int q14], σ)) rfl ?_
        by_cases h15 : q14 ≠ 1
        · rw [if_pos h15] at hf
          refine go_it (t := 204) (f := 121) (L1 := [some (.ref 0), some (.int x1), some (.int x2), some (.int x3), some (.int x4), some (.ref q7), none, none, none, none]) (st1 := []) (σ1 := σ) rfl h15 ?_
          refine go_n 1 (f := (206, [some (.ref 0), some (.int x1), some (.int x2), some (.int x3), some (.int x4), some (.ref q7), none, none, none, none], [.ref q7], σ)) rfl ?_
          obtain ⟨q17, h16, hf⟩ := bnd hf
          refine go_b (mid := 20007) (args := [.ref q7]) (pc := 209) (L := [some (.ref 0), some (.int x1), some (.int x2), some (.int x3), some (.int x4), some (.ref q7), none, none, none, none]) (st := []) (σ := σ) rfl (by decide) (am_bi_kdo h16) ?_
          refine go_n 1 (f := (210, [some (.ref 0), some (.int x1), some (.int x2), some (.int x3), some (.int x4), some (.ref q7), none, none, none, none], [.int 3, .int q17], σ)) rfl ?_
          by_cases h18 : q17 ≠ 3
          · rw [if_pos h18] at hf
            refine go_it (t := 287) (f := 213) (L1 := [some (.ref 0), some (.int x1), some (.int x2), some (.int x3), some (.int x4), some (.ref q7), none, none, none, none]) (st1 := []) (σ1 := σ) rfl h18 ?_
            refine go_n 4 (f := (296, [some (.ref 0), some (.int x1), some (.int x2), some (.int x3), some (.int x4), some (.ref q7), none, none, none, none], [.ref q7, .ref 14], σ)) rfl ?_
            obtain ⟨h19, hf⟩ := grd hf
            refine go_get rfl rfl rfl h19 ?_
            obtain ⟨h20, hf⟩ := grd hf
            refine go_iald rfl rfl rfl h20 ?_
            refine go_n 6 (f := (312, [some (.ref 0), some (.int x1), some (.int x2), some (.int x3), some (.int x4), some (.ref q7), some (.int (gi σ 14 (gi σ q7 1).toNatClampNeg)), none, none, none], [.int x4, .ref 18, .ref 0], σ)) rfl ?_
            obtain ⟨h21, hf⟩ := grd hf
            refine go_iald rfl rfl rfl h21 ?_
            refine go_n 2 (f := (316, [some (.ref 0), some (.int x1), some (.int x2), some (.int x3), some (.int x4), some (.ref q7), some (.int (gi σ 14 (gi σ q7 1).toNatClampNeg)), none, none, none], [.int 19, .int 0, .int (gi σ 18 x4.toNatClampNeg), .ref 0], σ)) rfl ?_
            obtain ⟨q22, h23, hf⟩ := bnd hf
            refine go_c (mid := 5122) (args := [.int (gi σ 18 x4.toNatClampNeg), .int 0, .int 19]) (pc := 319) (L := [some (.ref 0), some (.int x1), some (.int x2), some (.int x3), some (.int x4), some (.ref q7), some (.int (gi σ 14 (gi σ q7 1).toNatClampNeg)), none, none, none]) (st := [.ref 0]) (σ := σ) rfl ((fX0_in_ok _ _ _ _ q22 h23).deep (Nat.le_of_ble_eq_true rfl)) ?_
            by_cases h24 : q22 = 0
            · rw [if_pos h24] at hf
              refine go_it (t := 350) (f := 322) (L1 := [some (.ref 0), some (.int x1), some (.int x2), some (.int x3), some (.int x4), some (.ref q7), some (.int (gi σ 14 (gi σ q7 1).toNatClampNeg)), none, none, none]) (st1 := [.ref 0]) (σ1 := σ) rfl h24 ?_
              refine go_n 1 (f := (351, [some (.ref 0), some (.int x1), some (.int x2), some (.int x3), some (.int x4), some (.ref q7), some (.int (gi σ 14 (gi σ q7 1).toNatClampNeg)), none, none, none], [.int (-1), .ref 0], σ)) rfl ?_
              refine go_e (L1 := [some (.ref 0), none, none, some (.int x3), some (.int x4), none, some (.int (gi σ 14 (gi σ q7 1).toNatClampNeg)), none, none, none]) rfl rfl ?_
              exact fX0_bounds_J351_ok _ _ _ _  _  _ hf
            · rw [if_neg h24] at hf
              refine go_if (t := 350) (f := 322) (L1 := [some (.ref 0), some (.int x1), some (.int x2), some (.int x3), some (.int x4), some (.ref q7), some (.int (gi σ 14 (gi σ q7 1).toNatClampNeg)), none, none, none]) (st1 := [.ref 0]) (σ1 := σ) rfl h24 ?_
              refine go_n 9 (f := (338, [some (.ref 0), some (.int x1), some (.int x2), some (.int x3), some (.int x4), some (.ref q7), some (.int (gi σ 14 (gi σ q7 1).toNatClampNeg)), none, none, none], [.int x4, .ref 18, .int (20 * (gi σ 14 (gi σ q7 1).toNatClampNeg)), .int 1, .ref 0, .ref 0], σ)) rfl ?_
              obtain ⟨h42, hf⟩ := grd hf
              refine go_iald rfl rfl rfl h42 ?_
              refine go_n 4 (f := (344, [some (.ref 0), some (.int x1), some (.int x2), some (.int x3), some (.int x4), some (.ref q7), some (.int (gi σ 14 (gi σ q7 1).toNatClampNeg)), none, none, none], [.int x3, .int x2, .int x4, .int ((20 * (gi σ 14 (gi σ q7 1).toNatClampNeg)) + (gi σ 18 x4.toNatClampNeg)), .int 1, .ref 0, .ref 0], σ)) rfl ?_
              obtain ⟨q43, h44, hf⟩ := bnd hf
              refine go_c (mid := 5172) (args := [.ref 0, .int 1, .int ((20 * (gi σ 14 (gi σ q7 1).toNatClampNeg)) + (gi σ 18 x4.toNatClampNeg)), .int x4, .int x2, .int x3]) (pc := 347) (L := [some (.ref 0), some (.int x1), some (.int x2), some (.int x3), some (.int x4), some (.ref q7), some (.int (gi σ 14 (gi σ q7 1).toNatClampNeg)), none, none, none]) (st := [.ref 0]) (σ := σ) rfl ((fX0_last_ok _ _ _ _ _ _ q43 h44).deep (Nat.le_of_ble_eq_true rfl)) ?_
              refine go_n 1 (f := (351, [some (.ref 0), some (.int x1), some (.int x2), some (.int x3), some (.int x4), some (.ref q7), some (.int (gi σ 14 (gi σ q7 1).toNatClampNeg)), none, none, none], [.int q43.1, .ref 0], q43.2)) rfl ?_
              refine go_e (L1 := [some (.ref 0), none, none, some (.int x3), some (.int x4), none, some (.int (gi σ 14 (gi σ q7 1).toNatClampNeg)), none, none, none]) rfl rfl ?_
              exact fX0_bounds_J351_ok _ _ _ _  _  _ hf
          · rw [if_neg h18] at hf
            refine go_if (t := 287) (f := 213) (L1 := [some (.ref 0), some (.int x1), some (.int x2), some (.int x3), some (.int x4), some (.ref q7), none, none, none, none]) (st1 := []) (σ1 := σ) rfl h18 ?_
            refine go_n 4 (f := (218, [some (.ref 0), some (.int x1), some (.int x2), some (.int x3), some (.int x4), some (.ref q7), none, none, none, none], [.ref q7, .int 5, .ref 0, .ref 0], σ)) rfl ?_
            obtain ⟨h45, hf⟩ := grd hf
            refine go_cast rfl rfl rfl h45 ?_
            obtain ⟨h46, hf⟩ := grd hf
            refine go_get rfl rfl rfl h46 ?_
            refine go_n 3 (f := (228, [some (.ref 0), some (.int x1), some (.int x2), some (.int x3), some (.int x4), some (.ref q7), none, none, none, none], [.int x3, .int x2, .int x4, .int (gi σ q7 6), .int 5, .ref 0, .ref 0], σ)) rfl ?_
            obtain ⟨q47, h48, hf⟩ := bnd hf
            refine go_c (mid := 5172) (args := [.ref 0, .int 5, .int (gi σ q7 6), .int x4, .int x2, .int x3]) (pc := 231) (L := [some (.ref 0), some (.int x1), some (.int x2), some (.int x3), some (.int x4), some (.ref q7), none, none, none, none]) (st := [.ref 0]) (σ := σ) rfl ((fX0_last_ok _ _ _ _ _ _ q47 h48).deep (Nat.le_of_ble_eq_true rfl)) ?_
            refine go_n 4 (f := (239, [some (.ref 0), some (.int x1), some (.int x2), some (.int x3), some (.int x4), some (.ref q7), none, none, none, none], [.int (-1), .int q47.1], (wi q47.2 0 16 q47.1))) rfl ?_
            by_cases h49 : q47.1 = (-1)
            · rw [if_pos h49] at hf
              refine go_it (t := 285) (f := 242) (L1 := [some (.ref 0), some (.int x1), some (.int x2), some (.int x3), some (.int x4), some (.ref q7), none, none, none, none]) (st1 := []) (σ1 := (wi q47.2 0 16 q47.1)) rfl h49 ?_
              refine go_e (L1 := [none, none, none, none, none, none, none, none, none, none]) rfl rfl ?_
              refine go_n 1 (f := (286, [none, none, none, none, none, none, none, none, none, none], [.int 0], (wi q47.2 0 16 q47.1))) rfl ?_
              cases hf
              exact go_r rfl
            · rw [if_neg h49] at hf
              refine go_if (t := 285) (f := 242) (L1 := [some (.ref 0), some (.int x1), some (.int x2), some (.int x3), some (.int x4), some (.ref q7), none, none, none, none]) (st1 := []) (σ1 := (wi q47.2 0 16 q47.1)) rfl h49 ?_
              refine go_n 9 (f := (255, [some (.ref 0), some (.int x1), some (.int x2), some (.int x3), some (.int x4), some (.ref q7), none, none, none, none], [.long (gl q47.2 33 1), .long (gl q47.2 33 0), .ref 0], (wi q47.2 0 16 q47.1))) rfl ?_
              obtain ⟨q50, h51, hf⟩ := bnd hf
              refine go_c (mid := 3586) (args := [.long (gl q47.2 33 1)]) (pc := 258) (L := [some (.ref 0), some (.int x1), some (.int x2), some (.int x3), some (.int x4), some (.ref q7), none, none, none, none]) (st := [.long (gl q47.2 33 0), .ref 0]) (σ := (wi q47.2 0 16 q47.1)) rfl ((fJ5_abs_ok _ _ q50 h51).deep (Nat.le_of_ble_eq_true rfl)) ?_
              refine go_n 9 (f := (271, [some (.ref 0), some (.int x1), some (.int x2), some (.int x3), some (.int x4), some (.ref q7), none, none, none, none], [.long (gl q47.2 33 1), .long (gl q47.2 33 0), .long ((gl q47.2 33 0) - q50), .ref 0], (wi q47.2 0 16 q47.1))) rfl ?_
              obtain ⟨q52, h53, hf⟩ := bnd hf
              refine go_c (mid := 3586) (args := [.long (gl q47.2 33 1)]) (pc := 274) (L := [some (.ref 0), some (.int x1), some (.int x2), some (.int x3), some (.int x4), some (.ref q7), none, none, none, none]) (st := [.long (gl q47.2 33 0), .long ((gl q47.2 33 0) - q50), .ref 0]) (σ := (wi q47.2 0 16 q47.1)) rfl ((fJ5_abs_ok _ _ q52 h53).deep (Nat.le_of_ble_eq_true rfl)) ?_
              refine go_n 1 (f := (275, [some (.ref 0), some (.int x1), some (.int x2), some (.int x3), some (.int x4), some (.ref q7), none, none, none, none], [.long ((gl q47.2 33 0) + q52), .long ((gl q47.2 33 0) - q50), .ref 0], (wi q47.2 0 16 q47.1))) rfl ?_
              obtain ⟨q54, h55, hf⟩ := bnd hf
              refine go_c (mid := 5176) (args := [.ref 0, .long ((gl q47.2 33 0) - q50), .long ((gl q47.2 33 0) + q52)]) (pc := 278) (L := [some (.ref 0), some (.int x1), some (.int x2), some (.int x3), some (.int x4), some (.ref q7), none, none, none, none]) (st := []) (σ := (wi q47.2 0 16 q47.1)) rfl ((fX0_spans_ok _ _ _ q54 h55).deep (Nat.le_of_ble_eq_true rfl)) ?_
              refine go_m (f := (286, [none, none, none, none, none, none, none, none, none, none], [.int ((if q54.1 = 0 then 0 else 1) : Int32)], q54.2)) ?_ (fun hJ58 => ?_)
              · generalize hz57 : ((if q54.1 = 0 then 0 else 1) : Int32) = z57 at hf ⊢
                have oz57 : am_ok 3 z57 = true := hz57 ▸ (okb rfl rfl)
                try dsimp only at hf
                cases hf
                exact go_ret rfl rfl (Or.inr (Or.inl ⟨rfl, oz57⟩))
              · by_cases h56 : q54.1 = 0
                · refine go_it (t := 285) (f := 281) (L1 := [some (.ref 0), some (.int x1), some (.int x2), some (.int x3), some (.int x4), some (.ref q7), none, none, none, none]) (st1 := []) (σ1 := q54.2) rfl h56 ?_
                  refine go_e (L1 := [none, none, none, none, none, none, none, none, none, none]) rfl rfl ?_
                  refine go_n 1 (f := (286, [none, none, none, none, none, none, none, none, none, none], [.int 0], q54.2)) rfl ?_
                  refine go_e (L1 := [none, none, none, none, none, none, none, none, none, none]) rfl rfl ?_
                  simp only [if_pos h56] at hJ58
                  first | exact hJ58 | (simp only [if_pos h56]; exact hJ58)
                · refine go_if (t := 285) (f := 281) (L1 := [some (.ref 0), some (.int x1), some (.int x2), some (.int x3), some (.int x4), some (.ref q7), none, none, none, none]) (st1 := []) (σ1 := q54.2) rfl h56 ?_
                  refine go_n 2 (f := (286, [some (.ref 0), some (.int x1), some (.int x2), some (.int x3), some (.int x4), some (.ref q7), none, none, none, none], [.int 1], q54.2)) rfl ?_
                  refine go_e (L1 := [none, none, none, none, none, none, none, none, none, none]) rfl rfl ?_
                  simp only [if_neg h56] at hJ58
                  first | exact hJ58 | (simp only [if_neg h56]; exact hJ58)
        · rw [if_neg h15] at hf
          refine go_if (t := 204) (f := 121) (L1 := [some (.ref 0), some (.int x1), some (.int x2), some (.int x3), some (.int x4), some (.ref q7), none, none, none, none]) (st1 := []) (σ1 := σ) rfl h15 ?_
          refine go_n 4 (f := (126, [some (.ref 0), some (.int x1), some (.int x2), some (.int x3), some (.int x4), some (.ref q7), none, none, none, none], [.int x3, .int x2, .int x4, .ref 0], σ)) rfl ?_
          obtain ⟨q59, h60, hf⟩ := bnd hf
          refine go_c (mid := 5171) (args := [.ref 0, .int x4, .int x2, .int x3]) (pc := 129) (L := [some (.ref 0), some (.int x1), some (.int x2), some (.int x3), some (.int x4), some (.ref q7), none, none, none, none]) (st := []) (σ := σ) rfl ((fX0_rightOf_ok _ _ _ _ q59 h60).deep (Nat.le_of_ble_eq_true rfl)) ?_
          refine go_n 4 (f := (135, [some (.ref 0), some (.int x1), some (.int x2), some (.int x3), some (.int x4), some (.ref q7), some (.long q59.1), none, none, none], [.int x1, .int x4, .ref 0], q59.2)) rfl ?_
          refine go_m (f := (147, [some (.ref 0), none, some (.int x2), some (.int x3), some (.int x4), none, some (.long q59.1), none, none, none], [.int (if x4 ≠ x1 then (-100000) else q59.1.toInt32), .ref 0], q59.2)) ?_ (fun hJ71 => ?_)
          · generalize hz62 : (if x4 ≠ x1 then (-100000) else q59.1.toInt32) = z62 at hf ⊢
            try dsimp only at hf
            refine go_n 8 (f := (158, [some (.ref 0), none, some (.int x2), some (.int x3), some (.int x4), none, some (.long q59.1), none, none, none], [.int x3, .int x2, .int x4, .int 0, .int 2, .ref 0, .ref 0], (wi q59.2 0 17 z62))) rfl ?_
            obtain ⟨q63, h64, hf⟩ := bnd hf
            refine go_c (mid := 5172) (args := [.ref 0, .int 2, .int 0, .int x4, .int x2, .int x3]) (pc := 161) (L := [some (.ref 0), none, some (.int x2), some (.int x3), some (.int x4), none, some (.long q59.1), none, none, none]) (st := [.ref 0]) (σ := (wi q59.2 0 17 z62)) rfl ((fX0_last_ok _ _ _ _ _ _ q63 h64).deep (Nat.le_of_ble_eq_true rfl)) ?_
            refine go_n 4 (f := (169, [some (.ref 0), none, some (.int x2), some (.int x3), some (.int x4), none, some (.long q59.1), none, none, none], [.int (-1), .int q63.1], (wi q63.2 0 16 q63.1))) rfl ?_
            by_cases h65 : q63.1 ≠ (-1)
            · rw [if_pos h65] at hf
              refine go_it (t := 178) (f := 172) (L1 := [some (.ref 0), none, some (.int x2), some (.int x3), some (.int x4), none, some (.long q59.1), none, none, none]) (st1 := []) (σ1 := (wi q63.2 0 16 q63.1)) rfl h65 ?_
              refine go_n 4 (f := (184, [some (.ref 0), none, some (.int x2), some (.int x3), some (.int x4), none, some (.long q59.1), none, none, none], [.long (gl q63.2 33 0)], (wi q63.2 0 16 q63.1))) rfl ?_
              obtain ⟨q66, h67, hf⟩ := bnd hf
              refine go_c (mid := 3586) (args := [.long (gl q63.2 33 0)]) (pc := 187) (L := [some (.ref 0), none, some (.int x2), some (.int x3), some (.int x4), none, some (.long q59.1), none, none, none]) (st := []) (σ := (wi q63.2 0 16 q63.1)) rfl ((fJ5_abs_ok _ _ q66 h67).deep (Nat.le_of_ble_eq_true rfl)) ?_
              refine go_e (L1 := [some (.ref 0), none, none, none, none, none, some (.long q59.1), none, none, none]) rfl rfl ?_
              exact fX0_bounds_J187_ok _ _  _  _ hf
            · rw [if_neg h65] at hf
              refine go_if (t := 178) (f := 172) (L1 := [some (.ref 0), none, some (.int x2), some (.int x3), some (.int x4), none, some (.long q59.1), none, none, none]) (st1 := []) (σ1 := (wi q63.2 0 16 q63.1)) rfl h65 ?_
              refine go_n 2 (f := (187, [some (.ref 0), none, some (.int x2), some (.int x3), some (.int x4), none, some (.long q59.1), none, none, none], [.long 20], (wi q63.2 0 16 q63.1))) rfl ?_
              refine go_e (L1 := [some (.ref 0), none, none, none, none, none, some (.long q59.1), none, none, none]) rfl rfl ?_
              exact fX0_bounds_J187_ok _ _  _  _ hf
          · by_cases h61 : x4 ≠ x1
            · refine go_it (t := 144) (f := 138) (L1 := [some (.ref 0), some (.int x1), some (.int x2), some (.int x3), some (.int x4), some (.ref q7), some (.long q59.1), none, none, none]) (st1 := [.ref 0]) (σ1 := q59.2) rfl h61 ?_
              refine go_n 1 (f := (147, [some (.ref 0), some (.int x1), some (.int x2), some (.int x3), some (.int x4), some (.ref q7), some (.long q59.1), none, none, none], [.int (-100000), .ref 0], q59.2)) rfl ?_
              refine go_e (L1 := [some (.ref 0), none, some (.int x2), some (.int x3), some (.int x4), none, some (.long q59.1), none, none, none]) rfl rfl ?_
              simp only [if_pos h61] at hJ71
              first | exact hJ71 | (simp only [if_pos h61]; exact hJ71)
            · refine go_if (t := 144) (f := 138) (L1 := [some (.ref 0), some (.int x1), some (.int x2), some (.int x3), some (.int x4), some (.ref q7), some (.long q59.1), none, none, none]) (st1 := [.ref 0]) (σ1 := q59.2) rfl h61 ?_
              refine go_n 3 (f := (147, [some (.ref 0), some (.int x1), some (.int x2), some (.int x3), some (.int x4), some (.ref q7), some (.long q59.1), none, none, none], [.int q59.1.toInt32, .ref 0], q59.2)) rfl ?_
              refine go_e (L1 := [some (.ref 0), none, some (.int x2), some (.int x3), some (.int x4), none, some (.long q59.1), none, none, none]) rfl rfl ?_
              simp only [if_neg h61] at hJ71
              first | exact hJ71 | (simp only [if_neg h61]; exact hJ71)
      · rw [if_neg h12] at hf
        refine go_if (t := 112) (f := 110) (L1 := [some (.ref 0), some (.int x1), some (.int x2), some (.int x3), some (.int x4), some (.ref q7), none, none, none, none]) (st1 := []) (σ1 := σ) rfl h12 ?_
        refine go_n 1 (f := (111, [some (.ref 0), some (.int x1), some (.int x2), some (.int x3), some (.int x4), some (.ref q7), none, none, none, none], [.int 0], σ)) rfl ?_
        cases hf
        exact go_r rfl
    · rw [if_neg h6] at hf
      refine go_if (t := 85) (f := 40) (L1 := [some (.ref 0), some (.int x1), some (.int x2), some (.int x3), some (.int x4), some (.int x5), none, none, none, none]) (st1 := []) (σ1 := σ) rfl h6 ?_
      refine go_n 4 (f := (49, [some (.ref 0), some (.int x1), some (.int x2), some (.int x3), some (.int x4), some (.int x5), none, none, none, none], [.int x4, .ref 2], σ)) rfl ?_
      obtain ⟨q72, h73, hf⟩ := bnd hf
      refine go_c (mid := 2825) (args := [.ref 2, .int x4]) (pc := 52) (L := [some (.ref 0), some (.int x1), some (.int x2), some (.int x3), some (.int x4), some (.int x5), none, none, none, none]) (st := []) (σ := σ) rfl ((fJ2_get_ok _ _ _ q72 h73).deep (Nat.le_of_ble_eq_true rfl)) ?_
      obtain ⟨h74, hf⟩ := grd hf
      refine go_cast rfl rfl rfl h74 ?_
      obtain ⟨h75, hf⟩ := grd hf
      refine go_get rfl rfl rfl h75 ?_
      refine go_n 3 (f := (64, [some (.ref 0), some (.int x1), some (.int x2), some (.int x3), some (.int (gi σ q72 6)), some (.int x5), none, none, none, none], [.int 10, .int x5], σ)) rfl ?_
      by_cases h76 : x5 = 10
      · rw [if_pos h76] at hf
        refine go_it (t := 77) (f := 67) (L1 := [some (.ref 0), some (.int x1), some (.int x2), some (.int x3), some (.int (gi σ q72 6)), some (.int x5), none, none, none, none]) (st1 := []) (σ1 := σ) rfl h76 ?_
        refine go_e (L1 := [none, none, none, none, none, none, none, none, none, none]) rfl rfl ?_
        refine go_n 1 (f := (78, [none, none, none, none, none, none, none, none, none, none], [.int 0], σ)) rfl ?_
        cases hf
        exact go_r rfl
      · rw [if_neg h76] at hf
        refine go_if (t := 77) (f := 67) (L1 := [some (.ref 0), some (.int x1), some (.int x2), some (.int x3), some (.int (gi σ q72 6)), some (.int x5), none, none, none, none]) (st1 := []) (σ1 := σ) rfl h76 ?_
        refine go_n 3 (f := (71, [some (.ref 0), some (.int x1), some (.int x2), some (.int x3), some (.int (gi σ q72 6)), some (.int x5), none, none, none, none], [.int x3, .int (gi σ q72 6), .ref 0], σ)) rfl ?_
        obtain ⟨q77, h78, hf⟩ := bnd hf
        refine go_c (mid := 5170) (args := [.ref 0, .int (gi σ q72 6), .int x3]) (pc := 74) (L := [some (.ref 0), some (.int x1), some (.int x2), some (.int x3), some (.int (gi σ q72 6)), some (.int x5), none, none, none, none]) (st := []) (σ := σ) rfl ((fX0_isKnown_ok _ _ _ q77 h78).deep (Nat.le_of_ble_eq_true rfl)) ?_
        by_cases h79 : q77 ≠ 0
        · rw [if_pos h79] at hf
          refine go_it (t := 79) (f := 77) (L1 := [some (.ref 0), some (.int x1), some (.int x2), some (.int x3), some (.int (gi σ q72 6)), some (.int x5), none, none, none, none]) (st1 := []) (σ1 := σ) rfl h79 ?_
          refine go_n 2 (f := (18, [some (.ref 0), some (.int x1), some (.int x2), some (.int x3), some (.int (gi σ q72 6)), some (.int (x5 + 1)), none, none, none, none], [], σ)) rfl ?_
          exact hrec18 _ _ _ hf
        · rw [if_neg h79] at hf
          refine go_if (t := 79) (f := 77) (L1 := [some (.ref 0), some (.int x1), some (.int x2), some (.int x3), some (.int (gi σ q72 6)), some (.int x5), none, none, none, none]) (st1 := []) (σ1 := σ) rfl h79 ?_
          refine go_e (L1 := [none, none, none, none, none, none, none, none, none, none]) rfl rfl ?_
          refine go_n 1 (f := (78, [none, none, none, none, none, none, none, none, none, none], [.int 0], σ)) rfl ?_
          cases hf
          exact go_r rfl
def fX0_bounds (x1 : Int32) (x2 : Int32) (x3 : Int32) (σ : Sg) : Option (Int32 × Sg) :=
  lp (fX0_bounds_L18 x1 x2 x3 (wi (wi σ 0 16 (-1)) 0 17 (-100000)) ) N0 (x1, 0)
set_option maxHeartbeats 1500000 in
theorem fX0_bounds_ok (x1 : Int32) (x2 : Int32) (x3 : Int32) (σ : Sg) (r : (Int32 × Sg)) (hf : fX0_bounds x1 x2 x3 σ = some r) : Cl true 3246 5175 [.ref 0, .int x1, .int x2, .int x3] σ (.inl (some (.int (r).1)), (r).2) := by
  refine ⟨iX0_bounds, rfl, Nat.le_of_ble_eq_true rfl, Nat.le_of_ble_eq_true rfl, ?_⟩
  show Go true 3246 iX0_bounds (0, [some (.ref 0), some (.int x1), some (.int x2), some (.int x3), none, none, none, none, none, none], [], σ) (.inl (some (.int (r).1)), (r).2)
  unfold fX0_bounds at hf
  refine go_n 5 (f := (8, [some (.ref 0), some (.int x1), some (.int x2), some (.int x3), some (.int x1), none, none, none, none, none], [], (wi σ 0 16 (-1)))) rfl ?_
  refine go_n 5 (f := (18, [some (.ref 0), some (.int x1), some (.int x2), some (.int x3), some (.int x1), some (.int 0), none, none, none, none], [], (wi (wi σ 0 16 (-1)) 0 17 (-100000)))) rfl ?_
  exact fX0_bounds_L18_ok _ _ _ _   N0 _ _ _ hf
/-! OldWeather.isOn(IIIZ)Z -/
def fX0_isOn_J31 (x1 : Int32) (x2 : Int32) (x3 : Int32) (s0 : Int32)  (σ : Sg) : Option (Int32 × Sg) :=
  if inb x1 200 then if ((gi σ 25 x1.toNatClampNeg) + s0) = x2 then if s0 ≠ 0 then (fX0_bounds x1 x2 x3 σ).bind fun q5 => if q5.1 ≠ 0 then (fX0_weightOf x1 x2 x3 q5.2).bind fun q8 => some (1, (wi (wi (wl q8.2 0 28 q8.1) 0 14 (gi q5.2 0 14)) 0 15 (gi q5.2 0 15))) else some (0, q5.2) else if inb x1 200 then if inb x1 200 then if inb x1 200 then if inb x1 200 then if am_ok 3 (gi σ 45 x1.toNatClampNeg) = true then some ((gi σ 45 x1.toNatClampNeg), (wl (wi (wi σ 0 14 (gi σ 41 x1.toNatClampNeg)) 0 15 (gi σ 42 x1.toNatClampNeg)) 0 28 (gl σ 47 x1.toNatClampNeg))) else none else none else none else none else none else some (0, σ) else none
set_option maxHeartbeats 1500000 in
theorem fX0_isOn_J31_ok (x1 : Int32) (x2 : Int32) (x3 : Int32) (s0 : Int32)  (σ : Sg)  (r : (Int32 × Sg)) (hf : fX0_isOn_J31 x1 x2 x3 s0  σ = some r) : Go true 3247 iX0_isOn (31, [some (.ref 0), some (.int x1), some (.int x2), some (.int x3), none, none, none, none], [.int s0], σ) (.inl (some (.int (r).1)), (r).2) := by
  unfold fX0_isOn_J31 at hf
  refine go_n 4 (f := (38, [some (.ref 0), some (.int x1), some (.int x2), some (.int x3), none, some (.int s0), none, none], [.int x1, .ref 25], σ)) rfl ?_
  obtain ⟨h2, hf⟩ := grd hf
  refine go_iald rfl rfl rfl h2 ?_
  refine go_n 3 (f := (43, [some (.ref 0), some (.int x1), some (.int x2), some (.int x3), none, some (.int s0), none, none], [.int x2, .int ((gi σ 25 x1.toNatClampNeg) + s0)], σ)) rfl ?_
  by_cases h3 : ((gi σ 25 x1.toNatClampNeg) + s0) = x2
  · rw [if_pos h3] at hf
    refine go_it (t := 48) (f := 46) (L1 := [some (.ref 0), some (.int x1), some (.int x2), some (.int x3), none, some (.int s0), none, none]) (st1 := []) (σ1 := σ) rfl h3 ?_
    refine go_n 1 (f := (50, [some (.ref 0), some (.int x1), some (.int x2), some (.int x3), none, some (.int s0), none, none], [.int s0], σ)) rfl ?_
    by_cases h4 : s0 ≠ 0
    · rw [if_pos h4] at hf
      refine go_it (t := 102) (f := 53) (L1 := [some (.ref 0), some (.int x1), some (.int x2), some (.int x3), none, some (.int s0), none, none]) (st1 := []) (σ1 := σ) rfl h4 ?_
      refine go_n 4 (f := (106, [some (.ref 0), some (.int x1), some (.int x2), some (.int x3), none, some (.int s0), none, none], [.int x3, .int x2, .int x1, .ref 0], σ)) rfl ?_
      obtain ⟨q5, h6, hf⟩ := bnd hf
      refine go_c (mid := 5175) (args := [.ref 0, .int x1, .int x2, .int x3]) (pc := 109) (L := [some (.ref 0), some (.int x1), some (.int x2), some (.int x3), none, some (.int s0), none, none]) (st := []) (σ := σ) rfl ((fX0_bounds_ok _ _ _ _ q5 h6).deep (Nat.le_of_ble_eq_true rfl)) ?_
      by_cases h7 : q5.1 ≠ 0
      · rw [if_pos h7] at hf
        refine go_it (t := 114) (f := 112) (L1 := [some (.ref 0), some (.int x1), some (.int x2), some (.int x3), none, some (.int s0), none, none]) (st1 := []) (σ1 := q5.2) rfl h7 ?_
        refine go_n 6 (f := (126, [some (.ref 0), some (.int x1), some (.int x2), some (.int x3), none, some (.int s0), some (.int (gi q5.2 0 14)), some (.int (gi q5.2 0 15))], [], q5.2)) rfl ?_
        refine go_n 5 (f := (131, [some (.ref 0), some (.int x1), some (.int x2), some (.int x3), none, some (.int s0), some (.int (gi q5.2 0 14)), some (.int (gi q5.2 0 15))], [.int x3, .int x2, .int x1, .ref 0, .ref 0], q5.2)) rfl ?_
        obtain ⟨q8, h9, hf⟩ := bnd hf
        refine go_c (mid := 5178) (args := [.ref 0, .int x1, .int x2, .int x3]) (pc := 134) (L := [some (.ref 0), some (.int x1), some (.int x2), some (.int x3), none, some (.int s0), some (.int (gi q5.2 0 14)), some (.int (gi q5.2 0 15))]) (st := [.ref 0]) (σ := q5.2) rfl ((fX0_weightOf_ok _ _ _ _ q8 h9).deep (Nat.le_of_ble_eq_true rfl)) ?_
        refine go_n 4 (f := (143, [some (.ref 0), some (.int x1), some (.int x2), some (.int x3), none, some (.int s0), some (.int (gi q5.2 0 14)), some (.int (gi q5.2 0 15))], [], (wi (wl q8.2 0 28 q8.1) 0 14 (gi q5.2 0 14)))) rfl ?_
        refine go_n 4 (f := (150, [some (.ref 0), some (.int x1), some (.int x2), some (.int x3), none, some (.int s0), some (.int (gi q5.2 0 14)), some (.int (gi q5.2 0 15))], [.int 1], (wi (wi (wl q8.2 0 28 q8.1) 0 14 (gi q5.2 0 14)) 0 15 (gi q5.2 0 15)))) rfl ?_
        cases hf
        exact go_r rfl
      · rw [if_neg h7] at hf
        refine go_if (t := 114) (f := 112) (L1 := [some (.ref 0), some (.int x1), some (.int x2), some (.int x3), none, some (.int s0), none, none]) (st1 := []) (σ1 := q5.2) rfl h7 ?_
        refine go_n 1 (f := (113, [some (.ref 0), some (.int x1), some (.int x2), some (.int x3), none, some (.int s0), none, none], [.int 0], q5.2)) rfl ?_
        cases hf
        exact go_r rfl
    · rw [if_neg h4] at hf
      refine go_if (t := 102) (f := 53) (L1 := [some (.ref 0), some (.int x1), some (.int x2), some (.int x3), none, some (.int s0), none, none]) (st1 := []) (σ1 := σ) rfl h4 ?_
      refine go_n 5 (f := (62, [some (.ref 0), some (.int x1), some (.int x2), some (.int x3), none, some (.int s0), none, none], [.int x1, .ref 41, .ref 0], σ)) rfl ?_
      obtain ⟨h10, hf⟩ := grd hf
      refine go_iald rfl rfl rfl h10 ?_
      refine go_n 6 (f := (75, [some (.ref 0), some (.int x1), some (.int x2), some (.int x3), none, some (.int s0), none, none], [.int x1, .ref 42, .ref 0], (wi σ 0 14 (gi σ 41 x1.toNatClampNeg)))) rfl ?_
      obtain ⟨h11, hf⟩ := grd hf
      refine go_iald rfl rfl rfl h11 ?_
      refine go_n 6 (f := (88, [some (.ref 0), some (.int x1), some (.int x2), some (.int x3), none, some (.int s0), none, none], [.int x1, .ref 47, .ref 0], (wi (wi σ 0 14 (gi σ 41 x1.toNatClampNeg)) 0 15 (gi σ 42 x1.toNatClampNeg)))) rfl ?_
      obtain ⟨h12, hf⟩ := grd hf
      refine go_lald rfl rfl rfl h12 ?_
      refine go_n 5 (f := (100, [some (.ref 0), some (.int x1), some (.int x2), some (.int x3), none, some (.int s0), none, none], [.int x1, .ref 45], (wl (wi (wi σ 0 14 (gi σ 41 x1.toNatClampNeg)) 0 15 (gi σ 42 x1.toNatClampNeg)) 0 28 (gl σ 47 x1.toNatClampNeg)))) rfl ?_
      obtain ⟨h13, hf⟩ := grd hf
      refine go_bald rfl rfl (Or.inr rfl) h13 ?_
      obtain ⟨h14, hf⟩ := grd hf
      cases hf
      exact go_ret rfl rfl (Or.inr (Or.inl ⟨rfl, h14⟩))
  · rw [if_neg h3] at hf
    refine go_if (t := 48) (f := 46) (L1 := [some (.ref 0), some (.int x1), some (.int x2), some (.int x3), none, some (.int s0), none, none]) (st1 := []) (σ1 := σ) rfl h3 ?_
    refine go_n 1 (f := (47, [some (.ref 0), some (.int x1), some (.int x2), some (.int x3), none, some (.int s0), none, none], [.int 0], σ)) rfl ?_
    cases hf
    exact go_r rfl
def fX0_isOn (x1 : Int32) (x2 : Int32) (x3 : Int32) (x4 : Int32) (σ : Sg) : Option (Int32 × Sg) :=
  if x4 = 0 then fX0_isOn_J31 x1 x2 x3 0  σ else (fJ2_get 2 x1 σ).bind fun q15 => if [17, 18, 19, 20, 21].elem (kk σ q15) = true then if [17, 18, 19, 20, 21].elem (kk σ q15) = true then if inb (gi σ q15 1) 16 then fX0_isOn_J31 x1 x2 x3 (gi σ 53 (gi σ q15 1).toNatClampNeg)  σ else none else none else none
set_option maxHeartbeats 1500000 in
theorem fX0_isOn_ok (x1 : Int32) (x2 : Int32) (x3 : Int32) (x4 : Int32) (σ : Sg) (r : (Int32 × Sg)) (hf : fX0_isOn x1 x2 x3 x4 σ = some r) : Cl true 3247 5184 [.ref 0, .int x1, .int x2, .int x3, .int x4] σ (.inl (some (.int (r).1)), (r).2) := by
  refine ⟨iX0_isOn, rfl, Nat.le_of_ble_eq_true rfl, Nat.le_of_ble_eq_true rfl, ?_⟩
  show Go true 3247 iX0_isOn (0, [some (.ref 0), some (.int x1), some (.int x2), some (.int x3), some (.int x4), none, none, none], [], σ) (.inl (some (.int (r).1)), (r).2)
  unfold fX0_isOn at hf
  refine go_n 1 (f := (2, [some (.ref 0), some (.int x1), some (.int x2), some (.int x3), some (.int x4), none, none, none], [.int x4], σ)) rfl ?_
  by_cases h1 : x4 = 0
  · rw [if_pos h1] at hf
    refine go_it (t := 30) (f := 5) (L1 := [some (.ref 0), some (.int x1), some (.int x2), some (.int x3), some (.int x4), none, none, none]) (st1 := []) (σ1 := σ) rfl h1 ?_
    refine go_n 1 (f := (31, [some (.ref 0), some (.int x1), some (.int x2), some (.int x3), some (.int x4), none, none, none], [.int 0], σ)) rfl ?_
    refine go_e (L1 := [some (.ref 0), some (.int x1), some (.int x2), some (.int x3), none, none, none, none]) rfl rfl ?_
    exact fX0_isOn_J31_ok _ _ _ _  _  _ hf
  · rw [if_neg h1] at hf
    refine go_if (t := 30) (f := 5) (L1 := [some (.ref 0), some (.int x1), some (.int x2), some (.int x3), some (.int x4), none, none, none]) (st1 := []) (σ1 := σ) rfl h1 ?_
    refine go_n 6 (f := (17, [some (.ref 0), some (.int x1), some (.int x2), some (.int x3), some (.int x4), none, none, none], [.int x1, .ref 2, .ref 53], σ)) rfl ?_
    obtain ⟨q15, h16, hf⟩ := bnd hf
    refine go_c (mid := 2825) (args := [.ref 2, .int x1]) (pc := 20) (L := [some (.ref 0), some (.int x1), some (.int x2), some (.int x3), some (.int x4), none, none, none]) (st := [.ref 53]) (σ := σ) rfl ((fJ2_get_ok _ _ _ q15 h16).deep (Nat.le_of_ble_eq_true rfl)) ?_
    obtain ⟨h17, hf⟩ := grd hf
    refine go_cast rfl rfl rfl h17 ?_
    obtain ⟨h18, hf⟩ := grd hf
    refine go_get rfl rfl rfl h18 ?_
    obtain ⟨h19, hf⟩ := grd hf
    refine go_iald rfl rfl rfl h19 ?_
    refine go_n 1 (f := (31, [some (.ref 0), some (.int x1), some (.int x2), some (.int x3), some (.int x4), none, none, none], [.int (gi σ 53 (gi σ q15 1).toNatClampNeg)], σ)) rfl ?_
    refine go_e (L1 := [some (.ref 0), some (.int x1), some (.int x2), some (.int x3), none, none, none, none]) rfl rfl ?_
    exact fX0_isOn_J31_ok _ _ _ _  _  _ hf
/-! OldWeather$Desk.looks(I)V -/
def fX6_looks_J283 (x1 : Int32) (x2 : Int32) (x3 : Int32) (s0 : Int32) (s1 : Int32) (rec226 : (Int32 × Sg) → Option Sg) (σ : Sg) : Option Sg :=
  if inb s1 200 then rec226 ((x3 + 1), (wi σ 46 s1.toNatClampNeg (am_nr 4 s0))) else none
set_option maxHeartbeats 1500000 in
theorem fX6_looks_J283_ok (x1 : Int32) (x2 : Int32) (x3 : Int32) (s0 : Int32) (s1 : Int32) (rec226 : (Int32 × Sg) → Option Sg) (σ : Sg) (hrec226 : ∀ (y3 : Int32) (τ : Sg) (r : Sg), rec226 (y3, τ) = some r → Go true 3247 iX6_looks (226, [some (.ref 39), some (.int x1), some (.int x2), some (.int y3)], [], τ) (.inl none, r)) (r : Sg) (hf : fX6_looks_J283 x1 x2 x3 s0 s1 rec226 σ = some r) : Go true 3247 iX6_looks (283, [some (.ref 39), some (.int x1), some (.int x2), some (.int x3)], [.int s0, .int s1, .ref 46], σ) (.inl none, r) := by
  unfold fX6_looks_J283 at hf
  obtain ⟨h13, hf⟩ := grd hf
  refine go_bast rfl rfl (Or.inr rfl) h13 ?_
  refine go_n 2 (f := (226, [some (.ref 39), some (.int x1), some (.int x2), some (.int (x3 + 1))], [], (wi σ 46 s1.toNatClampNeg (am_nr 4 s0)))) rfl ?_
  exact hrec226 _ _ _ hf
def fX6_looks_J282 (x1 : Int32) (x2 : Int32) (x3 : Int32) (s0 : Int32) (rec226 : (Int32 × Sg) → Option Sg) (σ : Sg) : Option Sg :=
  fX6_looks_J283 x1 x2 x3 0 s0 rec226 σ
set_option maxHeartbeats 1500000 in
theorem fX6_looks_J282_ok (x1 : Int32) (x2 : Int32) (x3 : Int32) (s0 : Int32) (rec226 : (Int32 × Sg) → Option Sg) (σ : Sg) (hrec226 : ∀ (y3 : Int32) (τ : Sg) (r : Sg), rec226 (y3, τ) = some r → Go true 3247 iX6_looks (226, [some (.ref 39), some (.int x1), some (.int x2), some (.int y3)], [], τ) (.inl none, r)) (r : Sg) (hf : fX6_looks_J282 x1 x2 x3 s0 rec226 σ = some r) : Go true 3247 iX6_looks (282, [some (.ref 39), some (.int x1), some (.int x2), some (.int x3)], [.int s0, .ref 46], σ) (.inl none, r) := by
  unfold fX6_looks_J282 at hf
  refine go_n 1 (f := (283, [some (.ref 39), some (.int x1), some (.int x2), some (.int x3)], [.int 0, .int s0, .ref 46], σ)) rfl ?_
  exact fX6_looks_J283_ok _ _ _ _ _ _ _ hrec226 _ hf
def fX6_looks_L226 (x1 : Int32) (x2 : Int32)  (rec226 : (Int32 × Sg) → Option Sg) (s : Int32 × Sg) : Option Sg :=
  match s with
  | (x3, σ) => if x2 ≤ x3 then some σ else (fX0_isKnown x3 x1 σ).bind fun q10 => if q10 = 0 then fX6_looks_J282 x1 x2 x3 x3 rec226 σ else if inb x3 200 then if (gi σ 25 x3.toNatClampNeg) = (-1) then fX6_looks_J282 x1 x2 x3 x3 rec226 σ else (fX6_isStopped x3 σ).bind fun q16 => if q16 ≠ 0 then fX6_looks_J282 x1 x2 x3 x3 rec226 σ else (fX6_isTold x3 x2 σ).bind fun q19 => ((fun (z22 : Int32) => if inb x3 200 then rec226 ((x3 + 1), (wi σ 46 x3.toNatClampNeg (am_nr 4 z22))) else none) ((if q19 ≠ 0 then 0 else 1) : Int32)) else none
set_option maxHeartbeats 1500000 in
theorem fX6_looks_L226_ok (x1 : Int32) (x2 : Int32)   : ∀ (n : Nat) (x3 : Int32) (σ : Sg) (r : Sg), lp (fX6_looks_L226 x1 x2 ) n (x3, σ) = some r → Go true 3247 iX6_looks (226, [some (.ref 39), some (.int x1), some (.int x2), some (.int x3)], [], σ) (.inl none, r) := by
  intro n
  induction n with
  | zero => intro x3 σ r hf; cases hf
  | succ n ih =>
    intro x3 σ r hf
    have hf : fX6_looks_L226 x1 x2  (lp (fX6_looks_L226 x1 x2 ) n) (x3, σ) = some r := hf
    have hrec226 := ih
    generalize lp (fX6_looks_L226 x1 x2 ) n = rec226 at hf hrec226
    unfold fX6_looks_L226 at hf
    dsimp only at hf
    refine go_n 2 (f := (228, [some (.ref 39), some (.int x1), some (.int x2), some (.int x3)], [.int x2, .int x3], σ)) rfl ?_
    by_cases h9 : x2 ≤ x3
    · rw [if_pos h9] at hf
      refine go_it (t := 290) (f := 231) (L1 := [some (.ref 39), some (.int x1), some (.int x2), some (.int x3)]) (st1 := []) (σ1 := σ) rfl h9 ?_
      cases hf
      exact go_r rfl
    · rw [if_neg h9] at hf
      refine go_if (t := 290) (f := 231) (L1 := [some (.ref 39), some (.int x1), some (.int x2), some (.int x3)]) (st1 := []) (σ1 := σ) rfl h9 ?_
      refine go_n 7 (f := (242, [some (.ref 39), some (.int x1), some (.int x2), some (.int x3)], [.int x1, .int x3, .ref 0, .int x3, .ref 46], σ)) rfl ?_
      obtain ⟨q10, h11, hf⟩ := bnd hf
      refine go_c (mid := 5170) (args := [.ref 0, .int x3, .int x1]) (pc := 245) (L := [some (.ref 39), some (.int x1), some (.int x2), some (.int x3)]) (st := [.int x3, .ref 46]) (σ := σ) rfl ((fX0_isKnown_ok _ _ _ q10 h11).deep (Nat.le_of_ble_eq_true rfl)) ?_
      by_cases h12 : q10 = 0
      · rw [if_pos h12] at hf
        refine go_it (t := 282) (f := 248) (L1 := [some (.ref 39), some (.int x1), some (.int x2), some (.int x3)]) (st1 := [.int x3, .ref 46]) (σ1 := σ) rfl h12 ?_
        exact fX6_looks_J282_ok _ _ _ _ _ _ hrec226 _ hf
      · rw [if_neg h12] at hf
        refine go_if (t := 282) (f := 248) (L1 := [some (.ref 39), some (.int x1), some (.int x2), some (.int x3)]) (st1 := [.int x3, .ref 46]) (σ1 := σ) rfl h12 ?_
        refine go_n 4 (f := (256, [some (.ref 39), some (.int x1), some (.int x2), some (.int x3)], [.int x3, .ref 25, .int x3, .ref 46], σ)) rfl ?_
        obtain ⟨h14, hf⟩ := grd hf
        refine go_iald rfl rfl rfl h14 ?_
        refine go_n 1 (f := (258, [some (.ref 39), some (.int x1), some (.int x2), some (.int x3)], [.int (-1), .int (gi σ 25 x3.toNatClampNeg), .int x3, .ref 46], σ)) rfl ?_
        by_cases h15 : (gi σ 25 x3.toNatClampNeg) = (-1)
        · rw [if_pos h15] at hf
          refine go_it (t := 282) (f := 261) (L1 := [some (.ref 39), some (.int x1), some (.int x2), some (.int x3)]) (st1 := [.int x3, .ref 46]) (σ1 := σ) rfl h15 ?_
          exact fX6_looks_J282_ok _ _ _ _ _ _ hrec226 _ hf
        · rw [if_neg h15] at hf
          refine go_if (t := 282) (f := 261) (L1 := [some (.ref 39), some (.int x1), some (.int x2), some (.int x3)]) (st1 := [.int x3, .ref 46]) (σ1 := σ) rfl h15 ?_
          refine go_n 2 (f := (263, [some (.ref 39), some (.int x1), some (.int x2), some (.int x3)], [.int x3, .ref 39, .int x3, .ref 46], σ)) rfl ?_
          obtain ⟨q16, h17, hf⟩ := bnd hf
          refine go_c (mid := 11781) (args := [.ref 39, .int x3]) (pc := 266) (L := [some (.ref 39), some (.int x1), some (.int x2), some (.int x3)]) (st := [.int x3, .ref 46]) (σ := σ) rfl ((fX6_isStopped_ok _ _ q16 h17).deep (Nat.le_of_ble_eq_true rfl)) ?_
          by_cases h18 : q16 ≠ 0
          · rw [if_pos h18] at hf
            refine go_it (t := 282) (f := 269) (L1 := [some (.ref 39), some (.int x1), some (.int x2), some (.int x3)]) (st1 := [.int x3, .ref 46]) (σ1 := σ) rfl h18 ?_
            exact fX6_looks_J282_ok _ _ _ _ _ _ hrec226 _ hf
          · rw [if_neg h18] at hf
            refine go_if (t := 282) (f := 269) (L1 := [some (.ref 39), some (.int x1), some (.int x2), some (.int x3)]) (st1 := [.int x3, .ref 46]) (σ1 := σ) rfl h18 ?_
            refine go_n 3 (f := (272, [some (.ref 39), some (.int x1), some (.int x2), some (.int x3)], [.int x2, .int x3, .ref 39, .int x3, .ref 46], σ)) rfl ?_
            obtain ⟨q19, h20, hf⟩ := bnd hf
            refine go_c (mid := 11782) (args := [.ref 39, .int x3, .int x2]) (pc := 275) (L := [some (.ref 39), some (.int x1), some (.int x2), some (.int x3)]) (st := [.int x3, .ref 46]) (σ := σ) rfl ((fX6_isTold_ok _ _ _ q19 h20).deep (Nat.le_of_ble_eq_true rfl)) ?_
            refine go_m (f := (283, [some (.ref 39), some (.int x1), some (.int x2), some (.int x3)], [.int ((if q19 ≠ 0 then 0 else 1) : Int32), .int x3, .ref 46], σ)) ?_ (fun hJ24 => ?_)
            · generalize hz22 : ((if q19 ≠ 0 then 0 else 1) : Int32) = z22 at hf ⊢
              have oz22 : am_ok 3 z22 = true := hz22 ▸ (okb rfl rfl)
              try dsimp only at hf
              obtain ⟨h23, hf⟩ := grd hf
              refine go_bast rfl rfl (Or.inr rfl) h23 ?_
              refine go_n 2 (f := (226, [some (.ref 39), some (.int x1), some (.int x2), some (.int (x3 + 1))], [], (wi σ 46 x3.toNatClampNeg (am_nr 4 z22)))) rfl ?_
              exact hrec226 _ _ _ hf
            · by_cases h21 : q19 ≠ 0
              · refine go_it (t := 282) (f := 278) (L1 := [some (.ref 39), some (.int x1), some (.int x2), some (.int x3)]) (st1 := [.int x3, .ref 46]) (σ1 := σ) rfl h21 ?_
                refine go_n 1 (f := (283, [some (.ref 39), some (.int x1), some (.int x2), some (.int x3)], [.int 0, .int x3, .ref 46], σ)) rfl ?_
                simp only [if_pos h21] at hJ24
                first | exact hJ24 | (simp only [if_pos h21]; exact hJ24)
              · refine go_if (t := 282) (f := 278) (L1 := [some (.ref 39), some (.int x1), some (.int x2), some (.int x3)]) (st1 := [.int x3, .ref 46]) (σ1 := σ) rfl h21 ?_
                refine go_n 2 (f := (283, [some (.ref 39), some (.int x1), some (.int x2), some (.int x3)], [.int 1, .int x3, .ref 46], σ)) rfl ?_
                simp only [if_neg h21] at hJ24
                first | exact hJ24 | (simp only [if_neg h21]; exact hJ24)
def fX6_looks_J217 (x1 : Int32) (x2 : Int32) (x3 : Int32) (s0 : Int64) (s1 : Int32) (rec67 : (Int32 × Sg) → Option Sg) (σ : Sg) : Option Sg :=
  if inb s1 200 then rec67 ((x3 + 1), (wl σ 47 s1.toNatClampNeg s0)) else none
set_option maxHeartbeats 1500000 in
theorem fX6_looks_J217_ok (x1 : Int32) (x2 : Int32) (x3 : Int32) (s0 : Int64) (s1 : Int32) (rec67 : (Int32 × Sg) → Option Sg) (σ : Sg) (hrec67 : ∀ (y3 : Int32) (τ : Sg) (r : Sg), rec67 (y3, τ) = some r → Go true 3247 iX6_looks (67, [some (.ref 39), some (.int x1), some (.int x2), some (.int y3)], [], τ) (.inl none, r)) (r : Sg) (hf : fX6_looks_J217 x1 x2 x3 s0 s1 rec67 σ = some r) : Go true 3247 iX6_looks (217, [some (.ref 39), some (.int x1), some (.int x2), some (.int x3)], [.long s0, .int s1, .ref 47], σ) (.inl none, r) := by
  unfold fX6_looks_J217 at hf
  obtain ⟨h35, hf⟩ := grd hf
  refine go_last rfl rfl rfl h35 ?_
  refine go_n 2 (f := (67, [some (.ref 39), some (.int x1), some (.int x2), some (.int (x3 + 1))], [], (wl σ 47 s1.toNatClampNeg s0))) rfl ?_
  exact hrec67 _ _ _ hf
def fX6_looks_J128 (x1 : Int32) (x2 : Int32) (x3 : Int32) (s0 : Int32) (s1 : Int32) (rec67 : (Int32 × Sg) → Option Sg) (σ : Sg) : Option Sg :=
  if inb s1 200 then if inb x3 200 then if inb x3 200 then if inb x3 200 then if inb x3 200 then if inb x3 200 then if (gi (wi σ 45 s1.toNatClampNeg (am_nr 4 s0)) 45 x3.toNatClampNeg) = 0 then fX6_looks_J217 x1 x2 x3 0 x3 rec67 (wi (wi (wi (wi (wi σ 45 s1.toNatClampNeg (am_nr 4 s0)) 41 x3.toNatClampNeg (gi σ 0 14)) 42 x3.toNatClampNeg (gi σ 0 15)) 43 x3.toNatClampNeg (gi σ 0 16)) 44 x3.toNatClampNeg (gi σ 0 17)) else if inb x3 200 then (fX0_weightOf x3 (gi σ 25 x3.toNatClampNeg) x1 (wi (wi (wi (wi (wi σ 45 s1.toNatClampNeg (am_nr 4 s0)) 41 x3.toNatClampNeg (gi σ 0 14)) 42 x3.toNatClampNeg (gi σ 0 15)) 43 x3.toNatClampNeg (gi σ 0 16)) 44 x3.toNatClampNeg (gi σ 0 17))).bind fun q37 => fX6_looks_J217 x1 x2 x3 q37.1 x3 rec67 q37.2 else none else none else none else none else none else none else none
set_option maxHeartbeats 1500000 in
theorem fX6_looks_J128_ok (x1 : Int32) (x2 : Int32) (x3 : Int32) (s0 : Int32) (s1 : Int32) (rec67 : (Int32 × Sg) → Option Sg) (σ : Sg) (hrec67 : ∀ (y3 : Int32) (τ : Sg) (r : Sg), rec67 (y3, τ) = some r → Go true 3247 iX6_looks (67, [some (.ref 39), some (.int x1), some (.int x2), some (.int y3)], [], τ) (.inl none, r)) (r : Sg) (hf : fX6_looks_J128 x1 x2 x3 s0 s1 rec67 σ = some r) : Go true 3247 iX6_looks (128, [some (.ref 39), some (.int x1), some (.int x2), some (.int x3)], [.int s0, .int s1, .ref 45], σ) (.inl none, r) := by
  unfold fX6_looks_J128 at hf
  obtain ⟨h28, hf⟩ := grd hf
  refine go_bast rfl rfl (Or.inr rfl) h28 ?_
  refine go_n 6 (f := (141, [some (.ref 39), some (.int x1), some (.int x2), some (.int x3)], [.int (gi σ 0 14), .int x3, .ref 41], (wi σ 45 s1.toNatClampNeg (am_nr 4 s0)))) rfl ?_
  obtain ⟨h29, hf⟩ := grd hf
  refine go_iast rfl rfl rfl h29 ?_
  refine go_n 6 (f := (154, [some (.ref 39), some (.int x1), some (.int x2), some (.int x3)], [.int (gi σ 0 15), .int x3, .ref 42], (wi (wi σ 45 s1.toNatClampNeg (am_nr 4 s0)) 41 x3.toNatClampNeg (gi σ 0 14)))) rfl ?_
  obtain ⟨h30, hf⟩ := grd hf
  refine go_iast rfl rfl rfl h30 ?_
  refine go_n 6 (f := (167, [some (.ref 39), some (.int x1), some (.int x2), some (.int x3)], [.int (gi σ 0 16), .int x3, .ref 43], (wi (wi (wi σ 45 s1.toNatClampNeg (am_nr 4 s0)) 41 x3.toNatClampNeg (gi σ 0 14)) 42 x3.toNatClampNeg (gi σ 0 15)))) rfl ?_
  obtain ⟨h31, hf⟩ := grd hf
  refine go_iast rfl rfl rfl h31 ?_
  refine go_n 6 (f := (180, [some (.ref 39), some (.int x1), some (.int x2), some (.int x3)], [.int (gi σ 0 17), .int x3, .ref 44], (wi (wi (wi (wi σ 45 s1.toNatClampNeg (am_nr 4 s0)) 41 x3.toNatClampNeg (gi σ 0 14)) 42 x3.toNatClampNeg (gi σ 0 15)) 43 x3.toNatClampNeg (gi σ 0 16)))) rfl ?_
  obtain ⟨h32, hf⟩ := grd hf
  refine go_iast rfl rfl rfl h32 ?_
  refine go_n 6 (f := (191, [some (.ref 39), some (.int x1), some (.int x2), some (.int x3)], [.int x3, .ref 45, .int x3, .ref 47], (wi (wi (wi (wi (wi σ 45 s1.toNatClampNeg (am_nr 4 s0)) 41 x3.toNatClampNeg (gi σ 0 14)) 42 x3.toNatClampNeg (gi σ 0 15)) 43 x3.toNatClampNeg (gi σ 0 16)) 44 x3.toNatClampNeg (gi σ 0 17)))) rfl ?_
  obtain ⟨h33, hf⟩ := grd hf
  refine go_bald rfl rfl (Or.inr rfl) h33 ?_
  by_cases h34 : (gi (wi σ 45 s1.toNatClampNeg (am_nr 4 s0)) 45 x3.toNatClampNeg) = 0
  · rw [if_pos h34] at hf
    refine go_it (t := 216) (f := 195) (L1 := [some (.ref 39), some (.int x1), some (.int x2), some (.int x3)]) (st1 := [.int x3, .ref 47]) (σ1 := (wi (wi (wi (wi (wi σ 45 s1.toNatClampNeg (am_nr 4 s0)) 41 x3.toNatClampNeg (gi σ 0 14)) 42 x3.toNatClampNeg (gi σ 0 15)) 43 x3.toNatClampNeg (gi σ 0 16)) 44 x3.toNatClampNeg (gi σ 0 17))) rfl h34 ?_
    refine go_n 1 (f := (217, [some (.ref 39), some (.int x1), some (.int x2), some (.int x3)], [.long 0, .int x3, .ref 47], (wi (wi (wi (wi (wi σ 45 s1.toNatClampNeg (am_nr 4 s0)) 41 x3.toNatClampNeg (gi σ 0 14)) 42 x3.toNatClampNeg (gi σ 0 15)) 43 x3.toNatClampNeg (gi σ 0 16)) 44 x3.toNatClampNeg (gi σ 0 17)))) rfl ?_
    exact fX6_looks_J217_ok _ _ _ _ _ _ _ hrec67 _ hf
  · rw [if_neg h34] at hf
    refine go_if (t := 216) (f := 195) (L1 := [some (.ref 39), some (.int x1), some (.int x2), some (.int x3)]) (st1 := [.int x3, .ref 47]) (σ1 := (wi (wi (wi (wi (wi σ 45 s1.toNatClampNeg (am_nr 4 s0)) 41 x3.toNatClampNeg (gi σ 0 14)) 42 x3.toNatClampNeg (gi σ 0 15)) 43 x3.toNatClampNeg (gi σ 0 16)) 44 x3.toNatClampNeg (gi σ 0 17))) rfl h34 ?_
    refine go_n 7 (f := (208, [some (.ref 39), some (.int x1), some (.int x2), some (.int x3)], [.int x3, .ref 25, .int x3, .ref 0, .int x3, .ref 47], (wi (wi (wi (wi (wi σ 45 s1.toNatClampNeg (am_nr 4 s0)) 41 x3.toNatClampNeg (gi σ 0 14)) 42 x3.toNatClampNeg (gi σ 0 15)) 43 x3.toNatClampNeg (gi σ 0 16)) 44 x3.toNatClampNeg (gi σ 0 17)))) rfl ?_
    obtain ⟨h36, hf⟩ := grd hf
    refine go_iald rfl rfl rfl h36 ?_
    refine go_n 1 (f := (210, [some (.ref 39), some (.int x1), some (.int x2), some (.int x3)], [.int x1, .int (gi σ 25 x3.toNatClampNeg), .int x3, .ref 0, .int x3, .ref 47], (wi (wi (wi (wi (wi σ 45 s1.toNatClampNeg (am_nr 4 s0)) 41 x3.toNatClampNeg (gi σ 0 14)) 42 x3.toNatClampNeg (gi σ 0 15)) 43 x3.toNatClampNeg (gi σ 0 16)) 44 x3.toNatClampNeg (gi σ 0 17)))) rfl ?_
    obtain ⟨q37, h38, hf⟩ := bnd hf
    refine go_c (mid := 5178) (args := [.ref 0, .int x3, .int (gi σ 25 x3.toNatClampNeg), .int x1]) (pc := 213) (L := [some (.ref 39), some (.int x1), some (.int x2), some (.int x3)]) (st := [.int x3, .ref 47]) (σ := (wi (wi (wi (wi (wi σ 45 s1.toNatClampNeg (am_nr 4 s0)) 41 x3.toNatClampNeg (gi σ 0 14)) 42 x3.toNatClampNeg (gi σ 0 15)) 43 x3.toNatClampNeg (gi σ 0 16)) 44 x3.toNatClampNeg (gi σ 0 17))) rfl ((fX0_weightOf_ok _ _ _ _ q37 h38).deep (Nat.le_of_ble_eq_true rfl)) ?_
    refine go_n 1 (f := (217, [some (.ref 39), some (.int x1), some (.int x2), some (.int x3)], [.long q37.1, .int x3, .ref 47], q37.2)) rfl ?_
    exact fX6_looks_J217_ok _ _ _ _ _ _ _ hrec67 _ hf
def fX6_looks_J127 (x1 : Int32) (x2 : Int32) (x3 : Int32) (s0 : Int32) (rec67 : (Int32 × Sg) → Option Sg) (σ : Sg) : Option Sg :=
  fX6_looks_J128 x1 x2 x3 0 s0 rec67 σ
set_option maxHeartbeats 1500000 in
theorem fX6_looks_J127_ok (x1 : Int32) (x2 : Int32) (x3 : Int32) (s0 : Int32) (rec67 : (Int32 × Sg) → Option Sg) (σ : Sg) (hrec67 : ∀ (y3 : Int32) (τ : Sg) (r : Sg), rec67 (y3, τ) = some r → Go true 3247 iX6_looks (67, [some (.ref 39), some (.int x1), some (.int x2), some (.int y3)], [], τ) (.inl none, r)) (r : Sg) (hf : fX6_looks_J127 x1 x2 x3 s0 rec67 σ = some r) : Go true 3247 iX6_looks (127, [some (.ref 39), some (.int x1), some (.int x2), some (.int x3)], [.int s0, .ref 45], σ) (.inl none, r) := by
  unfold fX6_looks_J127 at hf
  refine go_n 1 (f := (128, [some (.ref 39), some (.int x1), some (.int x2), some (.int x3)], [.int 0, .int s0, .ref 45], σ)) rfl ?_
  exact fX6_looks_J128_ok _ _ _ _ _ _ _ hrec67 _ hf
def fX6_looks_L67 (x1 : Int32) (x2 : Int32)  (rec67 : (Int32 × Sg) → Option Sg) (s : Int32 × Sg) : Option Sg :=
  match s with
  | (x3, σ) => if x2 ≤ x3 then lp (fX6_looks_L226 x1 x2 ) N0 (0, σ) else (fX0_isKnown x3 x1 σ).bind fun q25 => if q25 = 0 then fX6_looks_J127 x1 x2 x3 x3 rec67 σ else if inb x3 200 then if (gi σ 25 x3.toNatClampNeg) = (-1) then fX6_looks_J127 x1 x2 x3 x3 rec67 σ else if inb x3 200 then (fX0_bounds x3 (gi σ 25 x3.toNatClampNeg) x1 σ).bind fun q42 => ((fun (z45 : Int32) => if inb x3 200 then if inb x3 200 then if inb x3 200 then if inb x3 200 then if inb x3 200 then if inb x3 200 then if (gi (wi q42.2 45 x3.toNatClampNeg (am_nr 4 z45)) 45 x3.toNatClampNeg) = 0 then fX6_looks_J217 x1 x2 x3 0 x3 rec67 (wi (wi (wi (wi (wi q42.2 45 x3.toNatClampNeg (am_nr 4 z45)) 41 x3.toNatClampNeg (gi q42.2 0 14)) 42 x3.toNatClampNeg (gi q42.2 0 15)) 43 x3.toNatClampNeg (gi q42.2 0 16)) 44 x3.toNatClampNeg (gi q42.2 0 17)) else if inb x3 200 then (fX0_weightOf x3 (gi q42.2 25 x3.toNatClampNeg) x1 (wi (wi (wi (wi (wi q42.2 45 x3.toNatClampNeg (am_nr 4 z45)) 41 x3.toNatClampNeg (gi q42.2 0 14)) 42 x3.toNatClampNeg (gi q42.2 0 15)) 43 x3.toNatClampNeg (gi q42.2 0 16)) 44 x3.toNatClampNeg (gi q42.2 0 17))).bind fun q54 => fX6_looks_J217 x1 x2 x3 q54.1 x3 rec67 q54.2 else none else none else none else none else none else none else none) ((if q42.1 = 0 then 0 else 1) : Int32)) else none else none
set_option maxHeartbeats 1500000 in
theorem fX6_looks_L67_ok (x1 : Int32) (x2 : Int32)   : ∀ (n : Nat) (x3 : Int32) (σ : Sg) (r : Sg), lp (fX6_looks_L67 x1 x2 ) n (x3, σ) = some r → Go true 3247 iX6_looks (67, [some (.ref 39), some (.int x1), some (.int x2), some (.int x3)], [], σ) (.inl none, r) := by
  intro n
  induction n with
  | zero => intro x3 σ r hf; cases hf
  | succ n ih =>
    intro x3 σ r hf
    have hf : fX6_looks_L67 x1 x2  (lp (fX6_looks_L67 x1 x2 ) n) (x3, σ) = some r := hf
    have hrec67 := ih
    generalize lp (fX6_looks_L67 x1 x2 ) n = rec67 at hf hrec67
    unfold fX6_looks_L67 at hf
    dsimp only at hf
    refine go_n 2 (f := (69, [some (.ref 39), some (.int x1), some (.int x2), some (.int x3)], [.int x2, .int x3], σ)) rfl ?_
    by_cases h8 : x2 ≤ x3
    · rw [if_pos h8] at hf
      refine go_it (t := 224) (f := 72) (L1 := [some (.ref 39), some (.int x1), some (.int x2), some (.int x3)]) (st1 := []) (σ1 := σ) rfl h8 ?_
      refine go_n 2 (f := (226, [some (.ref 39), some (.int x1), some (.int x2), some (.int 0)], [], σ)) rfl ?_
      exact fX6_looks_L226_ok _ _   N0 _ _ _ hf
    · rw [if_neg h8] at hf
      refine go_if (t := 224) (f := 72) (L1 := [some (.ref 39), some (.int x1), some (.int x2), some (.int x3)]) (st1 := []) (σ1 := σ) rfl h8 ?_
      refine go_n 7 (f := (83, [some (.ref 39), some (.int x1), some (.int x2), some (.int x3)], [.int x1, .int x3, .ref 0, .int x3, .ref 45], σ)) rfl ?_
      obtain ⟨q25, h26, hf⟩ := bnd hf
      refine go_c (mid := 5170) (args := [.ref 0, .int x3, .int x1]) (pc := 86) (L := [some (.ref 39), some (.int x1), some (.int x2), some (.int x3)]) (st := [.int x3, .ref 45]) (σ := σ) rfl ((fX0_isKnown_ok _ _ _ q25 h26).deep (Nat.le_of_ble_eq_true rfl)) ?_
      by_cases h27 : q25 = 0
      · rw [if_pos h27] at hf
        refine go_it (t := 127) (f := 89) (L1 := [some (.ref 39), some (.int x1), some (.int x2), some (.int x3)]) (st1 := [.int x3, .ref 45]) (σ1 := σ) rfl h27 ?_
        exact fX6_looks_J127_ok _ _ _ _ _ _ hrec67 _ hf
      · rw [if_neg h27] at hf
        refine go_if (t := 127) (f := 89) (L1 := [some (.ref 39), some (.int x1), some (.int x2), some (.int x3)]) (st1 := [.int x3, .ref 45]) (σ1 := σ) rfl h27 ?_
        refine go_n 4 (f := (97, [some (.ref 39), some (.int x1), some (.int x2), some (.int x3)], [.int x3, .ref 25, .int x3, .ref 45], σ)) rfl ?_
        obtain ⟨h39, hf⟩ := grd hf
        refine go_iald rfl rfl rfl h39 ?_
        refine go_n 1 (f := (99, [some (.ref 39), some (.int x1), some (.int x2), some (.int x3)], [.int (-1), .int (gi σ 25 x3.toNatClampNeg), .int x3, .ref 45], σ)) rfl ?_
        by_cases h40 : (gi σ 25 x3.toNatClampNeg) = (-1)
        · rw [if_pos h40] at hf
          refine go_it (t := 127) (f := 102) (L1 := [some (.ref 39), some (.int x1), some (.int x2), some (.int x3)]) (st1 := [.int x3, .ref 45]) (σ1 := σ) rfl h40 ?_
          exact fX6_looks_J127_ok _ _ _ _ _ _ hrec67 _ hf
        · rw [if_neg h40] at hf
          refine go_if (t := 127) (f := 102) (L1 := [some (.ref 39), some (.int x1), some (.int x2), some (.int x3)]) (st1 := [.int x3, .ref 45]) (σ1 := σ) rfl h40 ?_
          refine go_n 7 (f := (115, [some (.ref 39), some (.int x1), some (.int x2), some (.int x3)], [.int x3, .ref 25, .int x3, .ref 0, .int x3, .ref 45], σ)) rfl ?_
          obtain ⟨h41, hf⟩ := grd hf
          refine go_iald rfl rfl rfl h41 ?_
          refine go_n 1 (f := (117, [some (.ref 39), some (.int x1), some (.int x2), some (.int x3)], [.int x1, .int (gi σ 25 x3.toNatClampNeg), .int x3, .ref 0, .int x3, .ref 45], σ)) rfl ?_
          obtain ⟨q42, h43, hf⟩ := bnd hf
          refine go_c (mid := 5175) (args := [.ref 0, .int x3, .int (gi σ 25 x3.toNatClampNeg), .int x1]) (pc := 120) (L := [some (.ref 39), some (.int x1), some (.int x2), some (.int x3)]) (st := [.int x3, .ref 45]) (σ := σ) rfl ((fX0_bounds_ok _ _ _ _ q42 h43).deep (Nat.le_of_ble_eq_true rfl)) ?_
          refine go_m (f := (128, [some (.ref 39), some (.int x1), some (.int x2), some (.int x3)], [.int ((if q42.1 = 0 then 0 else 1) : Int32), .int x3, .ref 45], q42.2)) ?_ (fun hJ56 => ?_)
          · generalize hz45 : ((if q42.1 = 0 then 0 else 1) : Int32) = z45 at hf ⊢
            have oz45 : am_ok 3 z45 = true := hz45 ▸ (okb rfl rfl)
            try dsimp only at hf
            obtain ⟨h46, hf⟩ := grd hf
            refine go_bast rfl rfl (Or.inr rfl) h46 ?_
            refine go_n 6 (f := (141, [some (.ref 39), some (.int x1), some (.int x2), some (.int x3)], [.int (gi q42.2 0 14), .int x3, .ref 41], (wi q42.2 45 x3.toNatClampNeg (am_nr 4 z45)))) rfl ?_
            obtain ⟨h47, hf⟩ := grd hf
            refine go_iast rfl rfl rfl h47 ?_
            refine go_n 6 (f := (154, [some (.ref 39), some (.int x1), some (.int x2), some (.int x3)], [.int (gi q42.2 0 15), .int x3, .ref 42], (wi (wi q42.2 45 x3.toNatClampNeg (am_nr 4 z45)) 41 x3.toNatClampNeg (gi q42.2 0 14)))) rfl ?_
            obtain ⟨h48, hf⟩ := grd hf
            refine go_iast rfl rfl rfl h48 ?_
            refine go_n 6 (f := (167, [some (.ref 39), some (.int x1), some (.int x2), some (.int x3)], [.int (gi q42.2 0 16), .int x3, .ref 43], (wi (wi (wi q42.2 45 x3.toNatClampNeg (am_nr 4 z45)) 41 x3.toNatClampNeg (gi q42.2 0 14)) 42 x3.toNatClampNeg (gi q42.2 0 15)))) rfl ?_
            obtain ⟨h49, hf⟩ := grd hf
            refine go_iast rfl rfl rfl h49 ?_
            refine go_n 6 (f := (180, [some (.ref 39), some (.int x1), some (.int x2), some (.int x3)], [.int (gi q42.2 0 17), .int x3, .ref 44], (wi (wi (wi (wi q42.2 45 x3.toNatClampNeg (am_nr 4 z45)) 41 x3.toNatClampNeg (gi q42.2 0 14)) 42 x3.toNatClampNeg (gi q42.2 0 15)) 43 x3.toNatClampNeg (gi q42.2 0 16)))) rfl ?_
            obtain ⟨h50, hf⟩ := grd hf
            refine go_iast rfl rfl rfl h50 ?_
            refine go_n 6 (f := (191, [some (.ref 39), some (.int x1), some (.int x2), some (.int x3)], [.int x3, .ref 45, .int x3, .ref 47], (wi (wi (wi (wi (wi q42.2 45 x3.toNatClampNeg (am_nr 4 z45)) 41 x3.toNatClampNeg (gi q42.2 0 14)) 42 x3.toNatClampNeg (gi q42.2 0 15)) 43 x3.toNatClampNeg (gi q42.2 0 16)) 44 x3.toNatClampNeg (gi q42.2 0 17)))) rfl ?_
            obtain ⟨h51, hf⟩ := grd hf
            refine go_bald rfl rfl (Or.inr rfl) h51 ?_
            by_cases h52 : (gi (wi q42.2 45 x3.toNatClampNeg (am_nr 4 z45)) 45 x3.toNatClampNeg) = 0
            · rw [if_pos h52] at hf
              refine go_it (t := 216) (f := 195) (L1 := [some (.ref 39), some (.int x1), some (.int x2), some (.int x3)]) (st1 := [.int x3, .ref 47]) (σ1 := (wi (wi (wi (wi (wi q42.2 45 x3.toNatClampNeg (am_nr 4 z45)) 41 x3.toNatClampNeg (gi q42.2 0 14)) 42 x3.toNatClampNeg (gi q42.2 0 15)) 43 x3.toNatClampNeg (gi q42.2 0 16)) 44 x3.toNatClampNeg (gi q42.2 0 17))) rfl h52 ?_
              refine go_n 1 (f := (217, [some (.ref 39), some (.int x1), some (.int x2), some (.int x3)], [.long 0, .int x3, .ref 47], (wi (wi (wi (wi (wi q42.2 45 x3.toNatClampNeg (am_nr 4 z45)) 41 x3.toNatClampNeg (gi q42.2 0 14)) 42 x3.toNatClampNeg (gi q42.2 0 15)) 43 x3.toNatClampNeg (gi q42.2 0 16)) 44 x3.toNatClampNeg (gi q42.2 0 17)))) rfl ?_
              exact fX6_looks_J217_ok _ _ _ _ _ _ _ hrec67 _ hf
            · rw [if_neg h52] at hf
              refine go_if (t := 216) (f := 195) (L1 := [some (.ref 39), some (.int x1), some (.int x2), some (.int x3)]) (st1 := [.int x3, .ref 47]) (σ1 := (wi (wi (wi (wi (wi q42.2 45 x3.toNatClampNeg (am_nr 4 z45)) 41 x3.toNatClampNeg (gi q42.2 0 14)) 42 x3.toNatClampNeg (gi q42.2 0 15)) 43 x3.toNatClampNeg (gi q42.2 0 16)) 44 x3.toNatClampNeg (gi q42.2 0 17))) rfl h52 ?_
              refine go_n 7 (f := (208, [some (.ref 39), some (.int x1), some (.int x2), some (.int x3)], [.int x3, .ref 25, .int x3, .ref 0, .int x3, .ref 47], (wi (wi (wi (wi (wi q42.2 45 x3.toNatClampNeg (am_nr 4 z45)) 41 x3.toNatClampNeg (gi q42.2 0 14)) 42 x3.toNatClampNeg (gi q42.2 0 15)) 43 x3.toNatClampNeg (gi q42.2 0 16)) 44 x3.toNatClampNeg (gi q42.2 0 17)))) rfl ?_
              obtain ⟨h53, hf⟩ := grd hf
              refine go_iald rfl rfl rfl h53 ?_
              refine go_n 1 (f := (210, [some (.ref 39), some (.int x1), some (.int x2), some (.int x3)], [.int x1, .int (gi q42.2 25 x3.toNatClampNeg), .int x3, .ref 0, .int x3, .ref 47], (wi (wi (wi (wi (wi q42.2 45 x3.toNatClampNeg (am_nr 4 z45)) 41 x3.toNatClampNeg (gi q42.2 0 14)) 42 x3.toNatClampNeg (gi q42.2 0 15)) 43 x3.toNatClampNeg (gi q42.2 0 16)) 44 x3.toNatClampNeg (gi q42.2 0 17)))) rfl ?_
              obtain ⟨q54, h55, hf⟩ := bnd hf
              refine go_c (mid := 5178) (args := [.ref 0, .int x3, .int (gi q42.2 25 x3.toNatClampNeg), .int x1]) (pc := 213) (L := [some (.ref 39), some (.int x1), some (.int x2), some (.int x3)]) (st := [.int x3, .ref 47]) (σ := (wi (wi (wi (wi (wi q42.2 45 x3.toNatClampNeg (am_nr 4 z45)) 41 x3.toNatClampNeg (gi q42.2 0 14)) 42 x3.toNatClampNeg (gi q42.2 0 15)) 43 x3.toNatClampNeg (gi q42.2 0 16)) 44 x3.toNatClampNeg (gi q42.2 0 17))) rfl ((fX0_weightOf_ok _ _ _ _ q54 h55).deep (Nat.le_of_ble_eq_true rfl)) ?_
              refine go_n 1 (f := (217, [some (.ref 39), some (.int x1), some (.int x2), some (.int x3)], [.long q54.1, .int x3, .ref 47], q54.2)) rfl ?_
              exact fX6_looks_J217_ok _ _ _ _ _ _ _ hrec67 _ hf
          · by_cases h44 : q42.1 = 0
            · refine go_it (t := 127) (f := 123) (L1 := [some (.ref 39), some (.int x1), some (.int x2), some (.int x3)]) (st1 := [.int x3, .ref 45]) (σ1 := q42.2) rfl h44 ?_
              refine go_n 1 (f := (128, [some (.ref 39), some (.int x1), some (.int x2), some (.int x3)], [.int 0, .int x3, .ref 45], q42.2)) rfl ?_
              simp only [if_pos h44] at hJ56
              first | exact hJ56 | (simp only [if_pos h44]; exact hJ56)
            · refine go_if (t := 127) (f := 123) (L1 := [some (.ref 39), some (.int x1), some (.int x2), some (.int x3)]) (st1 := [.int x3, .ref 45]) (σ1 := q42.2) rfl h44 ?_
              refine go_n 2 (f := (128, [some (.ref 39), some (.int x1), some (.int x2), some (.int x3)], [.int 1, .int x3, .ref 45], q42.2)) rfl ?_
              simp only [if_neg h44] at hJ56
              first | exact hJ56 | (simp only [if_neg h44]; exact hJ56)
def fX6_looks_J23 (x1 : Int32)  (σ : Sg) : Option Sg :=
  (fX0_dates  (wi (wi σ 39 8 x1) 39 9 (gi σ 0 1))).bind fun q2 => (fX6_joins x1 q2).bind fun q4 => (fJ2_size 2 q4).bind fun q6 => lp (fX6_looks_L67 x1 q6 ) N0 (0, q4)
set_option maxHeartbeats 1500000 in
theorem fX6_looks_J23_ok (x1 : Int32)  (σ : Sg)  (r : Sg) (hf : fX6_looks_J23 x1  σ = some r) : Go true 3247 iX6_looks (23, [some (.ref 39), some (.int x1), none, none], [], σ) (.inl none, r) := by
  unfold fX6_looks_J23 at hf
  refine go_n 8 (f := (39, [some (.ref 39), some (.int x1), none, none], [], (wi (wi σ 39 8 x1) 39 9 (gi σ 0 1)))) rfl ?_
  refine go_n 2 (f := (43, [some (.ref 39), some (.int x1), none, none], [.ref 0], (wi (wi σ 39 8 x1) 39 9 (gi σ 0 1)))) rfl ?_
  obtain ⟨q2, h3, hf⟩ := bnd hf
  refine go_c (mid := 5159) (args := [.ref 0]) (pc := 46) (L := [some (.ref 39), some (.int x1), none, none]) (st := []) (σ := (wi (wi σ 39 8 x1) 39 9 (gi σ 0 1))) rfl ((fX0_dates_ok _ q2 h3).deep (Nat.le_of_ble_eq_true rfl)) ?_
  refine go_n 2 (f := (48, [some (.ref 39), some (.int x1), none, none], [.int x1, .ref 39], q2)) rfl ?_
  obtain ⟨q4, h5, hf⟩ := bnd hf
  refine go_c (mid := 11778) (args := [.ref 39, .int x1]) (pc := 51) (L := [some (.ref 39), some (.int x1), none, none]) (st := []) (σ := q2) rfl ((fX6_joins_ok _ _ q4 h5).deep (Nat.le_of_ble_eq_true rfl)) ?_
  refine go_n 4 (f := (61, [some (.ref 39), some (.int x1), none, none], [.ref 2], q4)) rfl ?_
  obtain ⟨q6, h7, hf⟩ := bnd hf
  refine go_c (mid := 2821) (args := [.ref 2]) (pc := 64) (L := [some (.ref 39), some (.int x1), none, none]) (st := []) (σ := q4) rfl ((fJ2_size_ok _ _ q6 h7).deep (Nat.le_of_ble_eq_true rfl)) ?_
  refine go_n 3 (f := (67, [some (.ref 39), some (.int x1), some (.int q6), some (.int 0)], [], q4)) rfl ?_
  exact fX6_looks_L67_ok _ _   N0 _ _ _ hf
def fX6_looks (x1 : Int32) (σ : Sg) : Option Sg :=
  if (gi σ 39 8) ≠ x1 then fX6_looks_J23 x1  σ else if (gi σ 39 9) ≠ (gi σ 0 1) then fX6_looks_J23 x1  σ else some σ
set_option maxHeartbeats 1500000 in
theorem fX6_looks_ok (x1 : Int32) (σ : Sg) (r : Sg) (hf : fX6_looks x1 σ = some r) : Cl true 3247 11777 [.ref 39, .int x1] σ (.inl none, r) := by
  refine ⟨iX6_looks, rfl, Nat.le_of_ble_eq_true rfl, Nat.le_of_ble_eq_true rfl, ?_⟩
  show Go true 3247 iX6_looks (0, [some (.ref 39), some (.int x1), none, none], [], σ) (.inl none, r)
  unfold fX6_looks at hf
  refine go_n 3 (f := (5, [some (.ref 39), some (.int x1), none, none], [.int x1, .int (gi σ 39 8)], σ)) rfl ?_
  by_cases h1 : (gi σ 39 8) ≠ x1
  · rw [if_pos h1] at hf
    refine go_it (t := 23) (f := 8) (L1 := [some (.ref 39), some (.int x1), none, none]) (st1 := []) (σ1 := σ) rfl h1 ?_
    exact fX6_looks_J23_ok _  _  _ hf
  · rw [if_neg h1] at hf
    refine go_if (t := 23) (f := 8) (L1 := [some (.ref 39), some (.int x1), none, none]) (st1 := []) (σ1 := σ) rfl h1 ?_
    refine go_n 5 (f := (19, [some (.ref 39), some (.int x1), none, none], [.int (gi σ 0 1), .int (gi σ 39 9)], σ)) rfl ?_
    by_cases h57 : (gi σ 39 9) ≠ (gi σ 0 1)
    · rw [if_pos h57] at hf
      refine go_it (t := 23) (f := 22) (L1 := [some (.ref 39), some (.int x1), none, none]) (st1 := []) (σ1 := σ) rfl h57 ?_
      exact fX6_looks_J23_ok _  _  _ hf
    · rw [if_neg h57] at hf
      refine go_if (t := 23) (f := 22) (L1 := [some (.ref 39), some (.int x1), none, none]) (st1 := []) (σ1 := σ) rfl h57 ?_
      cases hf
      exact go_r rfl
/-! OldWeather.learned(IIII)I -/
def fX0_learned (x1 : Int32) (x2 : Int32) (x3 : Int32) (x4 : Int32) (σ : Sg) : Option (Int32 × Sg) :=
  (fX0_in x1 0 7).bind fun q1 => if q1 = 0 then some ((-100000), σ) else (fX0_in x2 0 19).bind fun q4 => if q4 = 0 then some ((-100000), σ) else (fX0_isDesk x3).bind fun q7 => if q7 = 0 then some ((-100000), σ) else (fX0_in x4 0 3).bind fun q10 => if q10 ≠ 0 then (fX5_looks x3 σ).bind fun q13 => if x4 ≠ 2 then if x4 ≠ 3 then (fX0_learns x1 x2 x3 q13).bind fun q17 => ((fun (z21 : Int32) => some (z21, q17.2)) (if q17.1 ≠ 0 then (if x4 ≠ 0 then (gl q17.2 0 20).toInt32 else (gl q17.2 0 19).toInt32) else (-100000))) else if inb ((20 * x1) + x2) 160 then if 3 ≤ (gi q13 36 ((20 * x1) + x2).toNatClampNeg) then (fX5_held ((20 * x1) + x2) q13).bind fun q25 => some (q25, q13) else some ((-100000), q13) else none else if inb ((20 * x1) + x2) 160 then some ((gi q13 36 ((20 * x1) + x2).toNatClampNeg), q13) else none else some ((-100000), σ)
set_option maxHeartbeats 1500000 in
theorem fX0_learned_ok (x1 : Int32) (x2 : Int32) (x3 : Int32) (x4 : Int32) (σ : Sg) (r : (Int32 × Sg)) (hf : fX0_learned x1 x2 x3 x4 σ = some r) : Cl true 3246 5168 [.ref 0, .int x1, .int x2, .int x3, .int x4] σ (.inl (some (.int (r).1)), (r).2) := by
  refine ⟨iX0_learned, rfl, Nat.le_of_ble_eq_true rfl, Nat.le_of_ble_eq_true rfl, ?_⟩
  show Go true 3246 iX0_learned (0, [some (.ref 0), some (.int x1), some (.int x2), some (.int x3), some (.int x4), none], [], σ) (.inl (some (.int (r).1)), (r).2)
  unfold fX0_learned at hf
  refine go_n 3 (f := (4, [some (.ref 0), some (.int x1), some (.int x2), some (.int x3), some (.int x4), none], [.int 7, .int 0, .int x1], σ)) rfl ?_
  obtain ⟨q1, h2, hf⟩ := bnd hf
  refine go_c (mid := 5122) (args := [.int x1, .int 0, .int 7]) (pc := 7) (L := [some (.ref 0), some (.int x1), some (.int x2), some (.int x3), some (.int x4), none]) (st := []) (σ := σ) rfl ((fX0_in_ok _ _ _ _ q1 h2).deep (Nat.le_of_ble_eq_true rfl)) ?_
  by_cases h3 : q1 = 0
  · rw [if_pos h3] at hf
    refine go_it (t := 37) (f := 10) (L1 := [some (.ref 0), some (.int x1), some (.int x2), some (.int x3), some (.int x4), none]) (st1 := []) (σ1 := σ) rfl h3 ?_
    refine go_e (L1 := [none, none, none, none, none, none]) rfl rfl ?_
    refine go_n 1 (f := (40, [none, none, none, none, none, none], [.int (-100000)], σ)) rfl ?_
    cases hf
    exact go_r rfl
  · rw [if_neg h3] at hf
    refine go_if (t := 37) (f := 10) (L1 := [some (.ref 0), some (.int x1), some (.int x2), some (.int x3), some (.int x4), none]) (st1 := []) (σ1 := σ) rfl h3 ?_
    refine go_n 3 (f := (14, [some (.ref 0), some (.int x1), some (.int x2), some (.int x3), some (.int x4), none], [.int 19, .int 0, .int x2], σ)) rfl ?_
    obtain ⟨q4, h5, hf⟩ := bnd hf
    refine go_c (mid := 5122) (args := [.int x2, .int 0, .int 19]) (pc := 17) (L := [some (.ref 0), some (.int x1), some (.int x2), some (.int x3), some (.int x4), none]) (st := []) (σ := σ) rfl ((fX0_in_ok _ _ _ _ q4 h5).deep (Nat.le_of_ble_eq_true rfl)) ?_
    by_cases h6 : q4 = 0
    · rw [if_pos h6] at hf
      refine go_it (t := 37) (f := 20) (L1 := [some (.ref 0), some (.int x1), some (.int x2), some (.int x3), some (.int x4), none]) (st1 := []) (σ1 := σ) rfl h6 ?_
      refine go_e (L1 := [none, none, none, none, none, none]) rfl rfl ?_
      refine go_n 1 (f := (40, [none, none, none, none, none, none], [.int (-100000)], σ)) rfl ?_
      cases hf
      exact go_r rfl
    · rw [if_neg h6] at hf
      refine go_if (t := 37) (f := 20) (L1 := [some (.ref 0), some (.int x1), some (.int x2), some (.int x3), some (.int x4), none]) (st1 := []) (σ1 := σ) rfl h6 ?_
      refine go_n 1 (f := (21, [some (.ref 0), some (.int x1), some (.int x2), some (.int x3), some (.int x4), none], [.int x3], σ)) rfl ?_
      obtain ⟨q7, h8, hf⟩ := bnd hf
      refine go_c (mid := 5147) (args := [.int x3]) (pc := 24) (L := [some (.ref 0), some (.int x1), some (.int x2), some (.int x3), some (.int x4), none]) (st := []) (σ := σ) rfl ((fX0_isDesk_ok _ _ q7 h8).deep (Nat.le_of_ble_eq_true rfl)) ?_
      by_cases h9 : q7 = 0
      · rw [if_pos h9] at hf
        refine go_it (t := 37) (f := 27) (L1 := [some (.ref 0), some (.int x1), some (.int x2), some (.int x3), some (.int x4), none]) (st1 := []) (σ1 := σ) rfl h9 ?_
        refine go_e (L1 := [none, none, none, none, none, none]) rfl rfl ?_
        refine go_n 1 (f := (40, [none, none, none, none, none, none], [.int (-100000)], σ)) rfl ?_
        cases hf
        exact go_r rfl
      · rw [if_neg h9] at hf
        refine go_if (t := 37) (f := 27) (L1 := [some (.ref 0), some (.int x1), some (.int x2), some (.int x3), some (.int x4), none]) (st1 := []) (σ1 := σ) rfl h9 ?_
        refine go_n 3 (f := (31, [some (.ref 0), some (.int x1), some (.int x2), some (.int x3), some (.int x4), none], [.int 3, .int 0, .int x4], σ)) rfl ?_
        obtain ⟨q10, h11, hf⟩ := bnd hf
        refine go_c (mid := 5122) (args := [.int x4, .int 0, .int 3]) (pc := 34) (L := [some (.ref 0), some (.int x1), some (.int x2), some (.int x3), some (.int x4), none]) (st := []) (σ := σ) rfl ((fX0_in_ok _ _ _ _ q10 h11).deep (Nat.le_of_ble_eq_true rfl)) ?_
        by_cases h12 : q10 ≠ 0
        · rw [if_pos h12] at hf
          refine go_it (t := 41) (f := 37) (L1 := [some (.ref 0), some (.int x1), some (.int x2), some (.int x3), some (.int x4), none]) (st1 := []) (σ1 := σ) rfl h12 ?_
          refine go_n 3 (f := (46, [some (.ref 0), some (.int x1), some (.int x2), some (.int x3), some (.int x4), none], [.int x3, .ref 35], σ)) rfl ?_
          obtain ⟨q13, h14, hf⟩ := bnd hf
          refine go_c (mid := 11521) (args := [.ref 35, .int x3]) (pc := 49) (L := [some (.ref 0), some (.int x1), some (.int x2), some (.int x3), some (.int x4), none]) (st := []) (σ := σ) rfl ((fX5_looks_ok _ _ q13 h14).deep (Nat.le_of_ble_eq_true rfl)) ?_
          refine go_n 8 (f := (60, [some (.ref 0), some (.int x1), some (.int x2), some (.int x3), some (.int x4), some (.int ((20 * x1) + x2))], [.int 2, .int x4], q13)) rfl ?_
          by_cases h15 : x4 ≠ 2
          · rw [if_pos h15] at hf
            refine go_it (t := 74) (f := 63) (L1 := [some (.ref 0), some (.int x1), some (.int x2), some (.int x3), some (.int x4), some (.int ((20 * x1) + x2))]) (st1 := []) (σ1 := q13) rfl h15 ?_
            refine go_n 2 (f := (77, [some (.ref 0), some (.int x1), some (.int x2), some (.int x3), some (.int x4), some (.int ((20 * x1) + x2))], [.int 3, .int x4], q13)) rfl ?_
            by_cases h16 : x4 ≠ 3
            · rw [if_pos h16] at hf
              refine go_it (t := 110) (f := 80) (L1 := [some (.ref 0), some (.int x1), some (.int x2), some (.int x3), some (.int x4), some (.int ((20 * x1) + x2))]) (st1 := []) (σ1 := q13) rfl h16 ?_
              refine go_n 4 (f := (114, [some (.ref 0), some (.int x1), some (.int x2), some (.int x3), some (.int x4), some (.int ((20 * x1) + x2))], [.int x3, .int x2, .int x1, .ref 0], q13)) rfl ?_
              obtain ⟨q17, h18, hf⟩ := bnd hf
              refine go_c (mid := 5173) (args := [.ref 0, .int x1, .int x2, .int x3]) (pc := 117) (L := [some (.ref 0), some (.int x1), some (.int x2), some (.int x3), some (.int x4), some (.int ((20 * x1) + x2))]) (st := []) (σ := q13) rfl ((fX0_learns_ok _ _ _ _ q17 h18).deep (Nat.le_of_ble_eq_true rfl)) ?_
              refine go_m (f := (143, [none, none, none, none, none, none], [.int (if q17.1 ≠ 0 then (if x4 ≠ 0 then (gl q17.2 0 20).toInt32 else (gl q17.2 0 19).toInt32) else (-100000))], q17.2)) ?_ (fun hJ22 => ?_)
              · generalize hz21 : (if q17.1 ≠ 0 then (if x4 ≠ 0 then (gl q17.2 0 20).toInt32 else (gl q17.2 0 19).toInt32) else (-100000)) = z21 at hf ⊢
                try dsimp only at hf
                cases hf
                exact go_r rfl
              · by_cases h19 : q17.1 ≠ 0
                · refine go_it (t := 126) (f := 120) (L1 := [some (.ref 0), some (.int x1), some (.int x2), some (.int x3), some (.int x4), some (.int ((20 * x1) + x2))]) (st1 := []) (σ1 := q17.2) rfl h19 ?_
                  refine go_n 1 (f := (128, [some (.ref 0), some (.int x1), some (.int x2), some (.int x3), some (.int x4), some (.int ((20 * x1) + x2))], [.int x4], q17.2)) rfl ?_
                  by_cases h20 : x4 ≠ 0
                  · refine go_it (t := 138) (f := 131) (L1 := [some (.ref 0), some (.int x1), some (.int x2), some (.int x3), some (.int x4), some (.int ((20 * x1) + x2))]) (st1 := []) (σ1 := q17.2) rfl h20 ?_
                    refine go_n 2 (f := (142, [some (.ref 0), some (.int x1), some (.int x2), some (.int x3), some (.int x4), some (.int ((20 * x1) + x2))], [.long (gl q17.2 0 20)], q17.2)) rfl ?_
                    refine go_e (L1 := [none, none, none, none, none, none]) rfl rfl ?_
                    refine go_n 1 (f := (143, [none, none, none, none, none, none], [.int (gl q17.2 0 20).toInt32], q17.2)) rfl ?_
                    refine go_e (L1 := [none, none, none, none, none, none]) rfl rfl ?_
                    simp only [if_pos h19, if_pos h20] at hJ22
                    first | exact hJ22 | (simp only [if_pos h19, if_pos h20]; exact hJ22)
                  · refine go_if (t := 138) (f := 131) (L1 := [some (.ref 0), some (.int x1), some (.int x2), some (.int x3), some (.int x4), some (.int ((20 * x1) + x2))]) (st1 := []) (σ1 := q17.2) rfl h20 ?_
                    refine go_n 3 (f := (142, [some (.ref 0), some (.int x1), some (.int x2), some (.int x3), some (.int x4), some (.int ((20 * x1) + x2))], [.long (gl q17.2 0 19)], q17.2)) rfl ?_
                    refine go_e (L1 := [none, none, none, none, none, none]) rfl rfl ?_
                    refine go_n 1 (f := (143, [none, none, none, none, none, none], [.int (gl q17.2 0 19).toInt32], q17.2)) rfl ?_
                    refine go_e (L1 := [none, none, none, none, none, none]) rfl rfl ?_
                    simp only [if_pos h19, if_neg h20] at hJ22
                    first | exact hJ22 | (simp only [if_pos h19, if_neg h20]; exact hJ22)
                · refine go_if (t := 126) (f := 120) (L1 := [some (.ref 0), some (.int x1), some (.int x2), some (.int x3), some (.int x4), some (.int ((20 * x1) + x2))]) (st1 := []) (σ1 := q17.2) rfl h19 ?_
                  refine go_n 2 (f := (143, [some (.ref 0), some (.int x1), some (.int x2), some (.int x3), some (.int x4), some (.int ((20 * x1) + x2))], [.int (-100000)], q17.2)) rfl ?_
                  refine go_e (L1 := [none, none, none, none, none, none]) rfl rfl ?_
                  simp only [if_neg h19] at hJ22
                  first | exact hJ22 | (simp only [if_neg h19]; exact hJ22)
            · rw [if_neg h16] at hf
              refine go_if (t := 110) (f := 80) (L1 := [some (.ref 0), some (.int x1), some (.int x2), some (.int x3), some (.int x4), some (.int ((20 * x1) + x2))]) (st1 := []) (σ1 := q13) rfl h16 ?_
              refine go_n 4 (f := (89, [some (.ref 0), some (.int x1), some (.int x2), some (.int x3), some (.int x4), some (.int ((20 * x1) + x2))], [.int ((20 * x1) + x2), .ref 36], q13)) rfl ?_
              obtain ⟨h23, hf⟩ := grd hf
              refine go_iald rfl rfl rfl h23 ?_
              refine go_n 1 (f := (91, [some (.ref 0), some (.int x1), some (.int x2), some (.int x3), some (.int x4), some (.int ((20 * x1) + x2))], [.int 3, .int (gi q13 36 ((20 * x1) + x2).toNatClampNeg)], q13)) rfl ?_
              by_cases h24 : 3 ≤ (gi q13 36 ((20 * x1) + x2).toNatClampNeg)
              · rw [if_pos h24] at hf
                refine go_it (t := 100) (f := 94) (L1 := [some (.ref 0), some (.int x1), some (.int x2), some (.int x3), some (.int x4), some (.int ((20 * x1) + x2))]) (st1 := []) (σ1 := q13) rfl h24 ?_
                refine go_n 3 (f := (106, [some (.ref 0), some (.int x1), some (.int x2), some (.int x3), some (.int x4), some (.int ((20 * x1) + x2))], [.int ((20 * x1) + x2), .ref 35], q13)) rfl ?_
                obtain ⟨q25, h26, hf⟩ := bnd hf
                refine go_c (mid := 11523) (args := [.ref 35, .int ((20 * x1) + x2)]) (pc := 109) (L := [some (.ref 0), some (.int x1), some (.int x2), some (.int x3), some (.int x4), some (.int ((20 * x1) + x2))]) (st := []) (σ := q13) rfl ((fX5_held_ok _ _ q25 h26).deep (Nat.le_of_ble_eq_true rfl)) ?_
                refine go_e (L1 := [none, none, none, none, none, none]) rfl rfl ?_
                cases hf
                exact go_r rfl
              · rw [if_neg h24] at hf
                refine go_if (t := 100) (f := 94) (L1 := [some (.ref 0), some (.int x1), some (.int x2), some (.int x3), some (.int x4), some (.int ((20 * x1) + x2))]) (st1 := []) (σ1 := q13) rfl h24 ?_
                refine go_n 2 (f := (109, [some (.ref 0), some (.int x1), some (.int x2), some (.int x3), some (.int x4), some (.int ((20 * x1) + x2))], [.int (-100000)], q13)) rfl ?_
                refine go_e (L1 := [none, none, none, none, none, none]) rfl rfl ?_
                cases hf
                exact go_r rfl
          · rw [if_neg h15] at hf
            refine go_if (t := 74) (f := 63) (L1 := [some (.ref 0), some (.int x1), some (.int x2), some (.int x3), some (.int x4), some (.int ((20 * x1) + x2))]) (st1 := []) (σ1 := q13) rfl h15 ?_
            refine go_n 4 (f := (72, [some (.ref 0), some (.int x1), some (.int x2), some (.int x3), some (.int x4), some (.int ((20 * x1) + x2))], [.int ((20 * x1) + x2), .ref 36], q13)) rfl ?_
            obtain ⟨h27, hf⟩ := grd hf
            refine go_iald rfl rfl rfl h27 ?_
            cases hf
            exact go_r rfl
        · rw [if_neg h12] at hf
          refine go_if (t := 41) (f := 37) (L1 := [some (.ref 0), some (.int x1), some (.int x2), some (.int x3), some (.int x4), none]) (st1 := []) (σ1 := σ) rfl h12 ?_
          refine go_e (L1 := [none, none, none, none, none, none]) rfl rfl ?_
          refine go_n 1 (f := (40, [none, none, none, none, none, none], [.int (-100000)], σ)) rfl ?_
          cases hf
          exact go_r rfl
/-! OldWeather.bound(III)I -/
def fX0_bound (x1 : Int32) (x2 : Int32) (x3 : Int32) (σ : Sg) : Option (Int32 × Sg) :=
  (fX0_isReading x1 σ).bind fun q1 => if q1 = 0 then some ((-100000), σ) else (fX0_isDesk x2).bind fun q4 => if q4 = 0 then some ((-100000), σ) else (fX0_in x3 0 3).bind fun q7 => if q7 ≠ 0 then (fX6_looks x2 σ).bind fun q10 => if inb x1 200 then if (gi q10 45 x1.toNatClampNeg) ≠ 0 then if x3 ≠ 0 then if x3 ≠ 1 then if x3 ≠ 2 then if inb x1 200 then some ((gi q10 44 x1.toNatClampNeg), q10) else none else if inb x1 200 then some ((gi q10 43 x1.toNatClampNeg), q10) else none else if inb x1 200 then some ((gi q10 42 x1.toNatClampNeg), q10) else none else if inb x1 200 then some ((gi q10 41 x1.toNatClampNeg), q10) else none else some ((-100000), q10) else none else some ((-100000), σ)
set_option maxHeartbeats 1500000 in
theorem fX0_bound_ok (x1 : Int32) (x2 : Int32) (x3 : Int32) (σ : Sg) (r : (Int32 × Sg)) (hf : fX0_bound x1 x2 x3 σ = some r) : Cl true 3248 5174 [.ref 0, .int x1, .int x2, .int x3] σ (.inl (some (.int (r).1)), (r).2) := by
  refine ⟨iX0_bound, rfl, Nat.le_of_ble_eq_true rfl, Nat.le_of_ble_eq_true rfl, ?_⟩
  show Go true 3248 iX0_bound (0, [some (.ref 0), some (.int x1), some (.int x2), some (.int x3)], [], σ) (.inl (some (.int (r).1)), (r).2)
  unfold fX0_bound at hf
  refine go_n 2 (f := (2, [some (.ref 0), some (.int x1), some (.int x2), some (.int x3)], [.int x1, .ref 0], σ)) rfl ?_
  obtain ⟨q1, h2, hf⟩ := bnd hf
  refine go_c (mid := 5153) (args := [.ref 0, .int x1]) (pc := 5) (L := [some (.ref 0), some (.int x1), some (.int x2), some (.int x3)]) (st := []) (σ := σ) rfl ((fX0_isReading_ok _ _ q1 h2).deep (Nat.le_of_ble_eq_true rfl)) ?_
  by_cases h3 : q1 = 0
  · rw [if_pos h3] at hf
    refine go_it (t := 24) (f := 8) (L1 := [some (.ref 0), some (.int x1), some (.int x2), some (.int x3)]) (st1 := []) (σ1 := σ) rfl h3 ?_
    refine go_e (L1 := [none, none, none, none]) rfl rfl ?_
    refine go_n 1 (f := (27, [none, none, none, none], [.int (-100000)], σ)) rfl ?_
    cases hf
    exact go_r rfl
  · rw [if_neg h3] at hf
    refine go_if (t := 24) (f := 8) (L1 := [some (.ref 0), some (.int x1), some (.int x2), some (.int x3)]) (st1 := []) (σ1 := σ) rfl h3 ?_
    refine go_n 1 (f := (9, [some (.ref 0), some (.int x1), some (.int x2), some (.int x3)], [.int x2], σ)) rfl ?_
    obtain ⟨q4, h5, hf⟩ := bnd hf
    refine go_c (mid := 5147) (args := [.int x2]) (pc := 12) (L := [some (.ref 0), some (.int x1), some (.int x2), some (.int x3)]) (st := []) (σ := σ) rfl ((fX0_isDesk_ok _ _ q4 h5).deep (Nat.le_of_ble_eq_true rfl)) ?_
    by_cases h6 : q4 = 0
    · rw [if_pos h6] at hf
      refine go_it (t := 24) (f := 15) (L1 := [some (.ref 0), some (.int x1), some (.int x2), some (.int x3)]) (st1 := []) (σ1 := σ) rfl h6 ?_
      refine go_e (L1 := [none, none, none, none]) rfl rfl ?_
      refine go_n 1 (f := (27, [none, none, none, none], [.int (-100000)], σ)) rfl ?_
      cases hf
      exact go_r rfl
    · rw [if_neg h6] at hf
      refine go_if (t := 24) (f := 15) (L1 := [some (.ref 0), some (.int x1), some (.int x2), some (.int x3)]) (st1 := []) (σ1 := σ) rfl h6 ?_
      refine go_n 3 (f := (18, [some (.ref 0), some (.int x1), some (.int x2), some (.int x3)], [.int 3, .int 0, .int x3], σ)) rfl ?_
      obtain ⟨q7, h8, hf⟩ := bnd hf
      refine go_c (mid := 5122) (args := [.int x3, .int 0, .int 3]) (pc := 21) (L := [some (.ref 0), some (.int x1), some (.int x2), some (.int x3)]) (st := []) (σ := σ) rfl ((fX0_in_ok _ _ _ _ q7 h8).deep (Nat.le_of_ble_eq_true rfl)) ?_
      by_cases h9 : q7 ≠ 0
      · rw [if_pos h9] at hf
        refine go_it (t := 28) (f := 24) (L1 := [some (.ref 0), some (.int x1), some (.int x2), some (.int x3)]) (st1 := []) (σ1 := σ) rfl h9 ?_
        refine go_n 3 (f := (33, [some (.ref 0), some (.int x1), some (.int x2), some (.int x3)], [.int x2, .ref 39], σ)) rfl ?_
        obtain ⟨q10, h11, hf⟩ := bnd hf
        refine go_c (mid := 11777) (args := [.ref 39, .int x2]) (pc := 36) (L := [some (.ref 0), some (.int x1), some (.int x2), some (.int x3)]) (st := []) (σ := σ) rfl ((fX6_looks_ok _ _ q10 h11).deep (Nat.le_of_ble_eq_true rfl)) ?_
        refine go_n 4 (f := (44, [some (.ref 0), some (.int x1), some (.int x2), some (.int x3)], [.int x1, .ref 45], q10)) rfl ?_
        obtain ⟨h12, hf⟩ := grd hf
        refine go_bald rfl rfl (Or.inr rfl) h12 ?_
        by_cases h13 : (gi q10 45 x1.toNatClampNeg) ≠ 0
        · rw [if_pos h13] at hf
          refine go_it (t := 52) (f := 48) (L1 := [some (.ref 0), some (.int x1), some (.int x2), some (.int x3)]) (st1 := []) (σ1 := q10) rfl h13 ?_
          refine go_n 1 (f := (53, [some (.ref 0), some (.int x1), some (.int x2), some (.int x3)], [.int x3], q10)) rfl ?_
          by_cases h14 : x3 ≠ 0
          · rw [if_pos h14] at hf
            refine go_it (t := 68) (f := 56) (L1 := [some (.ref 0), some (.int x1), some (.int x2), some (.int x3)]) (st1 := []) (σ1 := q10) rfl h14 ?_
            refine go_n 2 (f := (70, [some (.ref 0), some (.int x1), some (.int x2), some (.int x3)], [.int 1, .int x3], q10)) rfl ?_
            by_cases h15 : x3 ≠ 1
            · rw [if_pos h15] at hf
              refine go_it (t := 85) (f := 73) (L1 := [some (.ref 0), some (.int x1), some (.int x2), some (.int x3)]) (st1 := []) (σ1 := q10) rfl h15 ?_
              refine go_n 2 (f := (87, [some (.ref 0), some (.int x1), some (.int x2), some (.int x3)], [.int 2, .int x3], q10)) rfl ?_
              by_cases h16 : x3 ≠ 2
              · rw [if_pos h16] at hf
                refine go_it (t := 102) (f := 90) (L1 := [some (.ref 0), some (.int x1), some (.int x2), some (.int x3)]) (st1 := []) (σ1 := q10) rfl h16 ?_
                refine go_n 4 (f := (110, [some (.ref 0), some (.int x1), some (.int x2), some (.int x3)], [.int x1, .ref 44], q10)) rfl ?_
                obtain ⟨h17, hf⟩ := grd hf
                refine go_iald rfl rfl rfl h17 ?_
                refine go_e (L1 := [none, none, none, none]) rfl rfl ?_
                cases hf
                exact go_r rfl
              · rw [if_neg h16] at hf
                refine go_if (t := 102) (f := 90) (L1 := [some (.ref 0), some (.int x1), some (.int x2), some (.int x3)]) (st1 := []) (σ1 := q10) rfl h16 ?_
                refine go_n 4 (f := (98, [some (.ref 0), some (.int x1), some (.int x2), some (.int x3)], [.int x1, .ref 43], q10)) rfl ?_
                obtain ⟨h18, hf⟩ := grd hf
                refine go_iald rfl rfl rfl h18 ?_
                refine go_n 1 (f := (111, [some (.ref 0), some (.int x1), some (.int x2), some (.int x3)], [.int (gi q10 43 x1.toNatClampNeg)], q10)) rfl ?_
                refine go_e (L1 := [none, none, none, none]) rfl rfl ?_
                cases hf
                exact go_r rfl
            · rw [if_neg h15] at hf
              refine go_if (t := 85) (f := 73) (L1 := [some (.ref 0), some (.int x1), some (.int x2), some (.int x3)]) (st1 := []) (σ1 := q10) rfl h15 ?_
              refine go_n 4 (f := (81, [some (.ref 0), some (.int x1), some (.int x2), some (.int x3)], [.int x1, .ref 42], q10)) rfl ?_
              obtain ⟨h19, hf⟩ := grd hf
              refine go_iald rfl rfl rfl h19 ?_
              refine go_n 1 (f := (111, [some (.ref 0), some (.int x1), some (.int x2), some (.int x3)], [.int (gi q10 42 x1.toNatClampNeg)], q10)) rfl ?_
              refine go_e (L1 := [none, none, none, none]) rfl rfl ?_
              cases hf
              exact go_r rfl
          · rw [if_neg h14] at hf
            refine go_if (t := 68) (f := 56) (L1 := [some (.ref 0), some (.int x1), some (.int x2), some (.int x3)]) (st1 := []) (σ1 := q10) rfl h14 ?_
            refine go_n 4 (f := (64, [some (.ref 0), some (.int x1), some (.int x2), some (.int x3)], [.int x1, .ref 41], q10)) rfl ?_
            obtain ⟨h20, hf⟩ := grd hf
            refine go_iald rfl rfl rfl h20 ?_
            refine go_n 1 (f := (111, [some (.ref 0), some (.int x1), some (.int x2), some (.int x3)], [.int (gi q10 41 x1.toNatClampNeg)], q10)) rfl ?_
            refine go_e (L1 := [none, none, none, none]) rfl rfl ?_
            cases hf
            exact go_r rfl
        · rw [if_neg h13] at hf
          refine go_if (t := 52) (f := 48) (L1 := [some (.ref 0), some (.int x1), some (.int x2), some (.int x3)]) (st1 := []) (σ1 := q10) rfl h13 ?_
          refine go_n 1 (f := (51, [some (.ref 0), some (.int x1), some (.int x2), some (.int x3)], [.int (-100000)], q10)) rfl ?_
          cases hf
          exact go_r rfl
      · rw [if_neg h9] at hf
        refine go_if (t := 28) (f := 24) (L1 := [some (.ref 0), some (.int x1), some (.int x2), some (.int x3)]) (st1 := []) (σ1 := σ) rfl h9 ?_
        refine go_e (L1 := [none, none, none, none]) rfl rfl ?_
        refine go_n 1 (f := (27, [none, none, none, none], [.int (-100000)], σ)) rfl ?_
        cases hf
        exact go_r rfl
/-! OldWeather.same(II)I -/
def fX0_same (x1 : Int32) (x2 : Int32) (σ : Sg) : Option (Int32 × Sg) :=
  (fX0_isSource x1 σ).bind fun q1 => if q1 = 0 then some ((-1), σ) else (fX0_isDesk x2).bind fun q4 => if q4 ≠ 0 then (fX6_looks x2 σ).bind fun q7 => if inb x1 16 then some ((gi q7 40 x1.toNatClampNeg), q7) else none else some ((-1), σ)
set_option maxHeartbeats 1500000 in
theorem fX0_same_ok (x1 : Int32) (x2 : Int32) (σ : Sg) (r : (Int32 × Sg)) (hf : fX0_same x1 x2 σ = some r) : Cl true 3248 5180 [.ref 0, .int x1, .int x2] σ (.inl (some (.int (r).1)), (r).2) := by
  refine ⟨iX0_same, rfl, Nat.le_of_ble_eq_true rfl, Nat.le_of_ble_eq_true rfl, ?_⟩
  show Go true 3248 iX0_same (0, [some (.ref 0), some (.int x1), some (.int x2)], [], σ) (.inl (some (.int (r).1)), (r).2)
  unfold fX0_same at hf
  refine go_n 2 (f := (2, [some (.ref 0), some (.int x1), some (.int x2)], [.int x1, .ref 0], σ)) rfl ?_
  obtain ⟨q1, h2, hf⟩ := bnd hf
  refine go_c (mid := 5143) (args := [.ref 0, .int x1]) (pc := 5) (L := [some (.ref 0), some (.int x1), some (.int x2)]) (st := []) (σ := σ) rfl ((fX0_isSource_ok _ _ q1 h2).deep (Nat.le_of_ble_eq_true rfl)) ?_
  by_cases h3 : q1 = 0
  · rw [if_pos h3] at hf
    refine go_it (t := 15) (f := 8) (L1 := [some (.ref 0), some (.int x1), some (.int x2)]) (st1 := []) (σ1 := σ) rfl h3 ?_
    refine go_e (L1 := [none, none, none]) rfl rfl ?_
    refine go_n 1 (f := (16, [none, none, none], [.int (-1)], σ)) rfl ?_
    cases hf
    exact go_r rfl
  · rw [if_neg h3] at hf
    refine go_if (t := 15) (f := 8) (L1 := [some (.ref 0), some (.int x1), some (.int x2)]) (st1 := []) (σ1 := σ) rfl h3 ?_
    refine go_n 1 (f := (9, [some (.ref 0), some (.int x1), some (.int x2)], [.int x2], σ)) rfl ?_
    obtain ⟨q4, h5, hf⟩ := bnd hf
    refine go_c (mid := 5147) (args := [.int x2]) (pc := 12) (L := [some (.ref 0), some (.int x1), some (.int x2)]) (st := []) (σ := σ) rfl ((fX0_isDesk_ok _ _ q4 h5).deep (Nat.le_of_ble_eq_true rfl)) ?_
    by_cases h6 : q4 ≠ 0
    · rw [if_pos h6] at hf
      refine go_it (t := 17) (f := 15) (L1 := [some (.ref 0), some (.int x1), some (.int x2)]) (st1 := []) (σ1 := σ) rfl h6 ?_
      refine go_n 3 (f := (22, [some (.ref 0), some (.int x1), some (.int x2)], [.int x2, .ref 39], σ)) rfl ?_
      obtain ⟨q7, h8, hf⟩ := bnd hf
      refine go_c (mid := 11777) (args := [.ref 39, .int x2]) (pc := 25) (L := [some (.ref 0), some (.int x1), some (.int x2)]) (st := []) (σ := σ) rfl ((fX6_looks_ok _ _ q7 h8).deep (Nat.le_of_ble_eq_true rfl)) ?_
      refine go_n 4 (f := (33, [some (.ref 0), some (.int x1), some (.int x2)], [.int x1, .ref 40], q7)) rfl ?_
      obtain ⟨h9, hf⟩ := grd hf
      refine go_iald rfl rfl rfl h9 ?_
      cases hf
      exact go_r rfl
    · rw [if_neg h6] at hf
      refine go_if (t := 17) (f := 15) (L1 := [some (.ref 0), some (.int x1), some (.int x2)]) (st1 := []) (σ1 := σ) rfl h6 ?_
      refine go_e (L1 := [none, none, none]) rfl rfl ?_
      refine go_n 1 (f := (16, [none, none, none], [.int (-1)], σ)) rfl ?_
      cases hf
      exact go_r rfl
/-! OldWeather.counts(II)I -/
def fX0_counts (x1 : Int32) (x2 : Int32) (σ : Sg) : Option (Int32 × Sg) :=
  (fX0_isReading x1 σ).bind fun q1 => if q1 = 0 then some ((-1), σ) else (fX0_isDesk x2).bind fun q4 => if q4 ≠ 0 then (fX6_looks x2 σ).bind fun q7 => if inb x1 200 then ((fun (z11 : Int32) => some (z11, q7)) ((if (gi q7 46 x1.toNatClampNeg) = 0 then 0 else 1) : Int32)) else none else some ((-1), σ)
set_option maxHeartbeats 1500000 in
theorem fX0_counts_ok (x1 : Int32) (x2 : Int32) (σ : Sg) (r : (Int32 × Sg)) (hf : fX0_counts x1 x2 σ = some r) : Cl true 3248 5181 [.ref 0, .int x1, .int x2] σ (.inl (some (.int (r).1)), (r).2) := by
  refine ⟨iX0_counts, rfl, Nat.le_of_ble_eq_true rfl, Nat.le_of_ble_eq_true rfl, ?_⟩
  show Go true 3248 iX0_counts (0, [some (.ref 0), some (.int x1), some (.int x2)], [], σ) (.inl (some (.int (r).1)), (r).2)
  unfold fX0_counts at hf
  refine go_n 2 (f := (2, [some (.ref 0), some (.int x1), some (.int x2)], [.int x1, .ref 0], σ)) rfl ?_
  obtain ⟨q1, h2, hf⟩ := bnd hf
  refine go_c (mid := 5153) (args := [.ref 0, .int x1]) (pc := 5) (L := [some (.ref 0), some (.int x1), some (.int x2)]) (st := []) (σ := σ) rfl ((fX0_isReading_ok _ _ q1 h2).deep (Nat.le_of_ble_eq_true rfl)) ?_
  by_cases h3 : q1 = 0
  · rw [if_pos h3] at hf
    refine go_it (t := 15) (f := 8) (L1 := [some (.ref 0), some (.int x1), some (.int x2)]) (st1 := []) (σ1 := σ) rfl h3 ?_
    refine go_e (L1 := [none, none, none]) rfl rfl ?_
    refine go_n 1 (f := (16, [none, none, none], [.int (-1)], σ)) rfl ?_
    cases hf
    exact go_r rfl
  · rw [if_neg h3] at hf
    refine go_if (t := 15) (f := 8) (L1 := [some (.ref 0), some (.int x1), some (.int x2)]) (st1 := []) (σ1 := σ) rfl h3 ?_
    refine go_n 1 (f := (9, [some (.ref 0), some (.int x1), some (.int x2)], [.int x2], σ)) rfl ?_
    obtain ⟨q4, h5, hf⟩ := bnd hf
    refine go_c (mid := 5147) (args := [.int x2]) (pc := 12) (L := [some (.ref 0), some (.int x1), some (.int x2)]) (st := []) (σ := σ) rfl ((fX0_isDesk_ok _ _ q4 h5).deep (Nat.le_of_ble_eq_true rfl)) ?_
    by_cases h6 : q4 ≠ 0
    · rw [if_pos h6] at hf
      refine go_it (t := 17) (f := 15) (L1 := [some (.ref 0), some (.int x1), some (.int x2)]) (st1 := []) (σ1 := σ) rfl h6 ?_
      refine go_n 3 (f := (22, [some (.ref 0), some (.int x1), some (.int x2)], [.int x2, .ref 39], σ)) rfl ?_
      obtain ⟨q7, h8, hf⟩ := bnd hf
      refine go_c (mid := 11777) (args := [.ref 39, .int x2]) (pc := 25) (L := [some (.ref 0), some (.int x1), some (.int x2)]) (st := []) (σ := σ) rfl ((fX6_looks_ok _ _ q7 h8).deep (Nat.le_of_ble_eq_true rfl)) ?_
      refine go_n 4 (f := (33, [some (.ref 0), some (.int x1), some (.int x2)], [.int x1, .ref 46], q7)) rfl ?_
      obtain ⟨h9, hf⟩ := grd hf
      refine go_bald rfl rfl (Or.inr rfl) h9 ?_
      refine go_m (f := (42, [none, none, none], [.int ((if (gi q7 46 x1.toNatClampNeg) = 0 then 0 else 1) : Int32)], q7)) ?_ (fun hJ12 => ?_)
      · generalize hz11 : ((if (gi q7 46 x1.toNatClampNeg) = 0 then 0 else 1) : Int32) = z11 at hf ⊢
        have oz11 : am_ok 3 z11 = true := hz11 ▸ (okb rfl rfl)
        try dsimp only at hf
        cases hf
        exact go_r rfl
      · by_cases h10 : (gi q7 46 x1.toNatClampNeg) = 0
        · refine go_it (t := 41) (f := 37) (L1 := [some (.ref 0), some (.int x1), some (.int x2)]) (st1 := []) (σ1 := q7) rfl h10 ?_
          refine go_n 1 (f := (42, [some (.ref 0), some (.int x1), some (.int x2)], [.int 0], q7)) rfl ?_
          refine go_e (L1 := [none, none, none]) rfl rfl ?_
          simp only [if_pos h10] at hJ12
          first | exact hJ12 | (simp only [if_pos h10]; exact hJ12)
        · refine go_if (t := 41) (f := 37) (L1 := [some (.ref 0), some (.int x1), some (.int x2)]) (st1 := []) (σ1 := q7) rfl h10 ?_
          refine go_n 2 (f := (42, [some (.ref 0), some (.int x1), some (.int x2)], [.int 1], q7)) rfl ?_
          refine go_e (L1 := [none, none, none]) rfl rfl ?_
          simp only [if_neg h10] at hJ12
          first | exact hJ12 | (simp only [if_neg h10]; exact hJ12)
    · rw [if_neg h6] at hf
      refine go_if (t := 17) (f := 15) (L1 := [some (.ref 0), some (.int x1), some (.int x2)]) (st1 := []) (σ1 := σ) rfl h6 ?_
      refine go_e (L1 := [none, none, none]) rfl rfl ?_
      refine go_n 1 (f := (16, [none, none, none], [.int (-1)], σ)) rfl ?_
      cases hf
      exact go_r rfl
/-! OldWeather.joins(IIIIZ)V -/
def fX0_joins_J452 (s0 : Int64)  (σ : Sg) : Option Sg :=
  some (wi σ 0 25 s0.toInt32)
set_option maxHeartbeats 1500000 in
theorem fX0_joins_J452_ok (s0 : Int64)  (σ : Sg)  (r : Sg) (hf : fX0_joins_J452 s0  σ = some r) : Go true 3248 iX0_joins (452, [none, none, none, none, none, none, none, none, none, none, none, none, none, none, none, none, none, none], [.long s0, .ref 0], σ) (.inl none, r) := by
  unfold fX0_joins_J452 at hf
  refine go_n 2 (f := (456, [none, none, none, none, none, none, none, none, none, none, none, none, none, none, none, none, none, none], [], (wi σ 0 25 s0.toInt32))) rfl ?_
  cases hf
  exact go_r rfl
def fX0_joins_J341 (x1 : Int32) (x2 : Int32) (x8 : Int64) (x10 : Int64)  (σ : Sg) : Option Sg :=
  if (gi σ 0 24) ≠ 0 then if x10 ≠ 0 then (fJ5_floorDiv x8 x10).bind fun q12 => fX0_joins_J452 q12  σ else (fJ5_floorDiv ((gi σ 0 22).toInt64 + (gi σ 0 23).toInt64) 2).bind fun q14 => fX0_joins_J452 q14  σ else (fX0_monthOf x2 1).bind fun q16 => if inb (((12 * x1) + q16) - 1) 144 then if inb (((12 * x1) + q16) - 1) 144 then if inb (((12 * x1) + q16) - 1) 144 then some (wi (wi (wi σ 0 25 (gi σ 11 (((12 * x1) + q16) - 1).toNatClampNeg)) 0 22 ((gi σ 11 (((12 * x1) + q16) - 1).toNatClampNeg) - (gi σ 12 (((12 * x1) + q16) - 1).toNatClampNeg))) 0 23 ((gi σ 11 (((12 * x1) + q16) - 1).toNatClampNeg) + (gi σ 12 (((12 * x1) + q16) - 1).toNatClampNeg))) else none else none else none
set_option maxHeartbeats 1500000 in
theorem fX0_joins_J341_ok (x1 : Int32) (x2 : Int32) (x8 : Int64) (x10 : Int64)  (σ : Sg)  (r : Sg) (hf : fX0_joins_J341 x1 x2 x8 x10  σ = some r) : Go true 3248 iX0_joins (341, [some (.ref 0), some (.int x1), some (.int x2), none, none, none, none, none, some (.long x8), none, some (.long x10), none, none, none, none, none, none, none], [], σ) (.inl none, r) := by
  unfold fX0_joins_J341 at hf
  refine go_n 2 (f := (345, [some (.ref 0), some (.int x1), some (.int x2), none, none, none, none, none, some (.long x8), none, some (.long x10), none, none, none, none, none, none, none], [.int (gi σ 0 24)], σ)) rfl ?_
  by_cases h10 : (gi σ 0 24) ≠ 0
  · rw [if_pos h10] at hf
    refine go_it (t := 417) (f := 348) (L1 := [some (.ref 0), some (.int x1), some (.int x2), none, none, none, none, none, some (.long x8), none, some (.long x10), none, none, none, none, none, none, none]) (st1 := []) (σ1 := σ) rfl h10 ?_
    refine go_n 4 (f := (422, [some (.ref 0), some (.int x1), some (.int x2), none, none, none, none, none, some (.long x8), none, some (.long x10), none, none, none, none, none, none, none], [.int (lg_cmp x10 0), .ref 0], σ)) rfl ?_
    by_cases h11 : x10 ≠ 0
    · rw [if_pos h11] at hf
      refine go_it (t := 445) (f := 425) (L1 := [some (.ref 0), some (.int x1), some (.int x2), none, none, none, none, none, some (.long x8), none, some (.long x10), none, none, none, none, none, none, none]) (st1 := [.ref 0]) (σ1 := σ) rfl ((lgc_ne x10 0).mpr h11) ?_
      refine go_n 2 (f := (449, [some (.ref 0), some (.int x1), some (.int x2), none, none, none, none, none, some (.long x8), none, some (.long x10), none, none, none, none, none, none, none], [.long x10, .long x8, .ref 0], σ)) rfl ?_
      obtain ⟨q12, h13, hf⟩ := bnd hf
      refine go_c (mid := 3589) (args := [.long x8, .long x10]) (pc := 452) (L := [some (.ref 0), some (.int x1), some (.int x2), none, none, none, none, none, some (.long x8), none, some (.long x10), none, none, none, none, none, none, none]) (st := [.ref 0]) (σ := σ) rfl ((fJ5_floorDiv_ok _ _ _ q12 h13).deep (Nat.le_of_ble_eq_true rfl)) ?_
      refine go_e (L1 := [none, none, none, none, none, none, none, none, none, none, none, none, none, none, none, none, none, none]) rfl rfl ?_
      exact fX0_joins_J452_ok _  _  _ hf
    · rw [if_neg h11] at hf
      refine go_if (t := 445) (f := 425) (L1 := [some (.ref 0), some (.int x1), some (.int x2), none, none, none, none, none, some (.long x8), none, some (.long x10), none, none, none, none, none, none, none]) (st1 := [.ref 0]) (σ1 := σ) rfl (fun q => h11 ((lgc_ne x10 0).mp q)) ?_
      refine go_n 8 (f := (439, [some (.ref 0), some (.int x1), some (.int x2), none, none, none, none, none, some (.long x8), none, some (.long x10), none, none, none, none, none, none, none], [.long 2, .long ((gi σ 0 22).toInt64 + (gi σ 0 23).toInt64), .ref 0], σ)) rfl ?_
      obtain ⟨q14, h15, hf⟩ := bnd hf
      refine go_c (mid := 3589) (args := [.long ((gi σ 0 22).toInt64 + (gi σ 0 23).toInt64), .long 2]) (pc := 442) (L := [some (.ref 0), some (.int x1), some (.int x2), none, none, none, none, none, some (.long x8), none, some (.long x10), none, none, none, none, none, none, none]) (st := [.ref 0]) (σ := σ) rfl ((fJ5_floorDiv_ok _ _ _ q14 h15).deep (Nat.le_of_ble_eq_true rfl)) ?_
      refine go_n 1 (f := (452, [some (.ref 0), some (.int x1), some (.int x2), none, none, none, none, none, some (.long x8), none, some (.long x10), none, none, none, none, none, none, none], [.long q14, .ref 0], σ)) rfl ?_
      refine go_e (L1 := [none, none, none, none, none, none, none, none, none, none, none, none, none, none, none, none, none, none]) rfl rfl ?_
      exact fX0_joins_J452_ok _  _  _ hf
  · rw [if_neg h10] at hf
    refine go_if (t := 417) (f := 348) (L1 := [some (.ref 0), some (.int x1), some (.int x2), none, none, none, none, none, some (.long x8), none, some (.long x10), none, none, none, none, none, none, none]) (st1 := []) (σ1 := σ) rfl h10 ?_
    refine go_n 5 (f := (354, [some (.ref 0), some (.int x1), some (.int x2), none, none, none, none, none, some (.long x8), none, some (.long x10), none, none, none, none, none, none, none], [.int 1, .int x2, .int (12 * x1)], σ)) rfl ?_
    obtain ⟨q16, h17, hf⟩ := bnd hf
    refine go_c (mid := 5131) (args := [.int x2, .int 1]) (pc := 357) (L := [some (.ref 0), some (.int x1), some (.int x2), none, none, none, none, none, some (.long x8), none, some (.long x10), none, none, none, none, none, none, none]) (st := [.int (12 * x1)]) (σ := σ) rfl ((fX0_monthOf_ok _ _ _ q16 h17).deep (Nat.le_of_ble_eq_true rfl)) ?_
    refine go_n 9 (f := (372, [some (.ref 0), some (.int x1), some (.int x2), none, none, none, none, none, some (.long x8), none, some (.long x10), none, some (.int (((12 * x1) + q16) - 1)), none, none, none, none, none], [.int (((12 * x1) + q16) - 1), .ref 11, .ref 0], σ)) rfl ?_
    obtain ⟨h18, hf⟩ := grd hf
    refine go_iald rfl rfl rfl h18 ?_
    refine go_n 8 (f := (390, [some (.ref 0), some (.int x1), some (.int x2), none, none, none, none, none, some (.long x8), none, some (.long x10), none, some (.int (((12 * x1) + q16) - 1)), none, none, none, none, none], [.int (((12 * x1) + q16) - 1), .ref 12, .int (gi σ 11 (((12 * x1) + q16) - 1).toNatClampNeg), .ref 0], (wi σ 0 25 (gi σ 11 (((12 * x1) + q16) - 1).toNatClampNeg)))) rfl ?_
    obtain ⟨h19, hf⟩ := grd hf
    refine go_iald rfl rfl rfl h19 ?_
    refine go_n 9 (f := (409, [some (.ref 0), some (.int x1), some (.int x2), none, none, none, none, none, some (.long x8), none, some (.long x10), none, some (.int (((12 * x1) + q16) - 1)), none, none, none, none, none], [.int (((12 * x1) + q16) - 1), .ref 12, .int (gi σ 11 (((12 * x1) + q16) - 1).toNatClampNeg), .ref 0], (wi (wi σ 0 25 (gi σ 11 (((12 * x1) + q16) - 1).toNatClampNeg)) 0 22 ((gi σ 11 (((12 * x1) + q16) - 1).toNatClampNeg) - (gi σ 12 (((12 * x1) + q16) - 1).toNatClampNeg))))) rfl ?_
    obtain ⟨h20, hf⟩ := grd hf
    refine go_iald rfl rfl rfl h20 ?_
    refine go_n 3 (f := (456, [some (.ref 0), some (.int x1), some (.int x2), none, none, none, none, none, some (.long x8), none, some (.long x10), none, some (.int (((12 * x1) + q16) - 1)), none, none, none, none, none], [], (wi (wi (wi σ 0 25 (gi σ 11 (((12 * x1) + q16) - 1).toNatClampNeg)) 0 22 ((gi σ 11 (((12 * x1) + q16) - 1).toNatClampNeg) - (gi σ 12 (((12 * x1) + q16) - 1).toNatClampNeg))) 0 23 ((gi σ 11 (((12 * x1) + q16) - 1).toNatClampNeg) + (gi σ 12 (((12 * x1) + q16) - 1).toNatClampNeg))))) rfl ?_
    refine go_e (L1 := [none, none, none, none, none, none, none, none, none, none, none, none, none, none, none, none, none, none]) rfl rfl ?_
    cases hf
    exact go_r rfl
def fX0_joins_J289 (x1 : Int32) (x2 : Int32) (x3 : Int32) (x4 : Int32) (x5 : Int32) (x6 : Int32) (x7 : Int32) (x8 : Int64) (x10 : Int64) (x12 : Int32) (rec46 : (Int32 × Int32 × Int64 × Int64 × Int32 × Sg) → Option Sg) (σ : Sg) : Option Sg :=
  rec46 (x6, x7, x8, x10, (x12 + 1), σ)
set_option maxHeartbeats 1500000 in
theorem fX0_joins_J289_ok (x1 : Int32) (x2 : Int32) (x3 : Int32) (x4 : Int32) (x5 : Int32) (x6 : Int32) (x7 : Int32) (x8 : Int64) (x10 : Int64) (x12 : Int32) (rec46 : (Int32 × Int32 × Int64 × Int64 × Int32 × Sg) → Option Sg) (σ : Sg) (hrec46 : ∀ (y6 : Int32) (y7 : Int32) (y8 : Int64) (y10 : Int64) (y12 : Int32) (τ : Sg) (r : Sg), rec46 (y6, y7, y8, y10, y12, τ) = some r → Go true 3248 iX0_joins (46, [some (.ref 0), some (.int x1), some (.int x2), some (.int x3), some (.int x4), some (.int x5), some (.int y6), some (.int y7), some (.long y8), none, some (.long y10), none, some (.int y12), none, none, none, none, none], [], τ) (.inl none, r)) (r : Sg) (hf : fX0_joins_J289 x1 x2 x3 x4 x5 x6 x7 x8 x10 x12 rec46 σ = some r) : Go true 3248 iX0_joins (289, [some (.ref 0), some (.int x1), some (.int x2), some (.int x3), some (.int x4), some (.int x5), some (.int x6), some (.int x7), some (.long x8), none, some (.long x10), none, some (.int x12), none, none, none, none, none], [], σ) (.inl none, r) := by
  unfold fX0_joins_J289 at hf
  refine go_n 2 (f := (46, [some (.ref 0), some (.int x1), some (.int x2), some (.int x3), some (.int x4), some (.int x5), some (.int x6), some (.int x7), some (.long x8), none, some (.long x10), none, some (.int (x12 + 1)), none, none, none, none, none], [], σ)) rfl ?_
  exact hrec46 _ _ _ _ _ _ _ hf
def fX0_joins_L46 (x1 : Int32) (x2 : Int32) (x3 : Int32) (x4 : Int32) (x5 : Int32)  (rec46 : (Int32 × Int32 × Int64 × Int64 × Int32 × Sg) → Option Sg) (s : Int32 × Int32 × Int64 × Int64 × Int32 × Sg) : Option Sg :=
  match s with
  | (x6, x7, x8, x10, x12, σ) => (fJ2_size 2 σ).bind fun q3 => if q3 ≤ x12 then ((fun (z8 : Int32) => if z8 = 0 then fX0_joins_J341 x1 x2 x8 x10  (wi σ 0 26 z8) else fX0_joins_J341 x1 x2 x8 x10  (wi (wi (wi σ 0 26 z8) 0 22 x6) 0 23 x7)) ((if (gi σ 0 24) ≤ 0 then 0 else (if (gi σ 0 22) ≤ (gi σ 0 23) then 0 else 1)) : Int32)) else (fJ2_get 2 x12 σ).bind fun q22 => if [17, 18, 19, 20, 21].elem (kk σ q22) = true then if [17, 18, 19, 20, 21].elem (kk σ q22) = true then if inb (gi σ q22 1) 16 then if inb ((12 * x1) + (gi σ 15 (gi σ q22 1).toNatClampNeg)) 144 then if inb x12 200 then if (gi σ 46 x12.toNatClampNeg) = 0 then fX0_joins_J289 x1 x2 x3 x4 x5 x6 x7 x8 x10 x12 rec46 σ else if inb x12 200 then if (gi σ 26 x12.toNatClampNeg) ≠ (-1) then fX0_joins_J289 x1 x2 x3 x4 x5 x6 x7 x8 x10 x12 rec46 σ else if (gi σ 15 (gi σ q22 1).toNatClampNeg) = x4 then fX0_joins_J289 x1 x2 x3 x4 x5 x6 x7 x8 x10 x12 rec46 σ else if (gi σ 13 ((12 * x1) + (gi σ 15 (gi σ q22 1).toNatClampNeg)).toNatClampNeg) = 0 then fX0_joins_J289 x1 x2 x3 x4 x5 x6 x7 x8 x10 x12 rec46 σ else (fX0_isOn x12 x2 x3 x5 σ).bind fun q34 => if q34.1 ≠ 0 then (fJ5_max (gi q34.2 0 22) ((gi q34.2 0 14) - (100 - (gi σ 13 ((12 * x1) + (gi σ 15 (gi σ q22 1).toNatClampNeg)).toNatClampNeg)))).bind fun q37 => (fJ5_min (gi q34.2 0 23) ((gi q34.2 0 15) + (100 - (gi σ 13 ((12 * x1) + (gi σ 15 (gi σ q22 1).toNatClampNeg)).toNatClampNeg)))).bind fun q39 => (fJ5_min x6 ((gi q34.2 0 14) - (100 - (gi σ 13 ((12 * x1) + (gi σ 15 (gi σ q22 1).toNatClampNeg)).toNatClampNeg)))).bind fun q41 => (fJ5_max x7 ((gi q34.2 0 15) + (100 - (gi σ 13 ((12 * x1) + (gi σ 15 (gi σ q22 1).toNatClampNeg)).toNatClampNeg)))).bind fun q43 => if inb (gi q34.2 0 24) 200 then fX0_joins_J289 x1 x2 x3 x4 x5 q41 q43 (x8 + (((gi σ 13 ((12 * x1) + (gi σ 15 (gi σ q22 1).toNatClampNeg)).toNatClampNeg).toInt64 * (gl q34.2 0 28)) * ((gi q34.2 0 14) + (gi q34.2 0 15)).toInt64)) (x10 + (2 * ((gi σ 13 ((12 * x1) + (gi σ 15 (gi σ q22 1).toNatClampNeg)).toNatClampNeg).toInt64 * (gl q34.2 0 28)))) x12 rec46 (wi (wi (wi (wi q34.2 0 22 q37) 0 23 q39) 48 (gi q34.2 0 24).toNatClampNeg x12) 0 24 ((gi q34.2 0 24) + 1)) else none else fX0_joins_J289 x1 x2 x3 x4 x5 x6 x7 x8 x10 x12 rec46 q34.2 else none else none else none else none else none else none
set_option maxHeartbeats 1500000 in
theorem fX0_joins_L46_ok (x1 : Int32) (x2 : Int32) (x3 : Int32) (x4 : Int32) (x5 : Int32)   : ∀ (n : Nat) (x6 : Int32) (x7 : Int32) (x8 : Int64) (x10 : Int64) (x12 : Int32) (σ : Sg) (r : Sg), lp (fX0_joins_L46 x1 x2 x3 x4 x5 ) n (x6, x7, x8, x10, x12, σ) = some r → Go true 3248 iX0_joins (46, [some (.ref 0), some (.int x1), some (.int x2), some (.int x3), some (.int x4), some (.int x5), some (.int x6), some (.int x7), some (.long x8), none, some (.long x10), none, some (.int x12), none, none, none, none, none], [], σ) (.inl none, r) := by
  intro n
  induction n with
  | zero => intro x6 x7 x8 x10 x12 σ r hf; cases hf
  | succ n ih =>
    intro x6 x7 x8 x10 x12 σ r hf
    have hf : fX0_joins_L46 x1 x2 x3 x4 x5  (lp (fX0_joins_L46 x1 x2 x3 x4 x5 ) n) (x6, x7, x8, x10, x12, σ) = some r := hf
    have hrec46 := ih
    generalize lp (fX0_joins_L46 x1 x2 x3 x4 x5 ) n = rec46 at hf hrec46
    unfold fX0_joins_L46 at hf
    dsimp only at hf
    refine go_n 4 (f := (55, [some (.ref 0), some (.int x1), some (.int x2), some (.int x3), some (.int x4), some (.int x5), some (.int x6), some (.int x7), some (.long x8), none, some (.long x10), none, some (.int x12), none, none, none, none, none], [.ref 2, .int x12], σ)) rfl ?_
    obtain ⟨q3, h4, hf⟩ := bnd hf
    refine go_c (mid := 2821) (args := [.ref 2]) (pc := 58) (L := [some (.ref 0), some (.int x1), some (.int x2), some (.int x3), some (.int x4), some (.int x5), some (.int x6), some (.int x7), some (.long x8), none, some (.long x10), none, some (.int x12), none, none, none, none, none]) (st := [.int x12]) (σ := σ) rfl ((fJ2_size_ok _ _ q3 h4).deep (Nat.le_of_ble_eq_true rfl)) ?_
    by_cases h5 : q3 ≤ x12
    · rw [if_pos h5] at hf
      refine go_it (t := 295) (f := 61) (L1 := [some (.ref 0), some (.int x1), some (.int x2), some (.int x3), some (.int x4), some (.int x5), some (.int x6), some (.int x7), some (.long x8), none, some (.long x10), none, some (.int x12), none, none, none, none, none]) (st1 := []) (σ1 := σ) rfl h5 ?_
      refine go_n 3 (f := (300, [some (.ref 0), some (.int x1), some (.int x2), some (.int x3), some (.int x4), some (.int x5), some (.int x6), some (.int x7), some (.long x8), none, some (.long x10), none, some (.int x12), none, none, none, none, none], [.int (gi σ 0 24), .ref 0], σ)) rfl ?_
      refine go_m (f := (319, [some (.ref 0), some (.int x1), some (.int x2), none, none, none, some (.int x6), some (.int x7), some (.long x8), none, some (.long x10), none, none, none, none, none, none, none], [.int ((if (gi σ 0 24) ≤ 0 then 0 else (if (gi σ 0 22) ≤ (gi σ 0 23) then 0 else 1)) : Int32), .ref 0], σ)) ?_ (fun hJ21 => ?_)
      · generalize hz8 : ((if (gi σ 0 24) ≤ 0 then 0 else (if (gi σ 0 22) ≤ (gi σ 0 23) then 0 else 1)) : Int32) = z8 at hf ⊢
        have oz8 : am_ok 3 z8 = true := hz8 ▸ (okb rfl (okb rfl rfl))
        try dsimp only at hf
        refine go_puti rfl rfl rfl rfl rfl oz8 rfl ?_
        refine go_n 2 (f := (326, [some (.ref 0), some (.int x1), some (.int x2), none, none, none, some (.int x6), some (.int x7), some (.long x8), none, some (.long x10), none, none, none, none, none, none, none], [.int z8], (wi σ 0 26 z8))) rfl ?_
        by_cases h9 : z8 = 0
        · rw [if_pos h9] at hf
          refine go_it (t := 341) (f := 329) (L1 := [some (.ref 0), some (.int x1), some (.int x2), none, none, none, some (.int x6), some (.int x7), some (.long x8), none, some (.long x10), none, none, none, none, none, none, none]) (st1 := []) (σ1 := (wi σ 0 26 z8)) rfl h9 ?_
          refine go_e (L1 := [some (.ref 0), some (.int x1), some (.int x2), none, none, none, none, none, some (.long x8), none, some (.long x10), none, none, none, none, none, none, none]) rfl rfl ?_
          exact fX0_joins_J341_ok _ _ _ _  _  _ hf
        · rw [if_neg h9] at hf
          refine go_if (t := 341) (f := 329) (L1 := [some (.ref 0), some (.int x1), some (.int x2), none, none, none, some (.int x6), some (.int x7), some (.long x8), none, some (.long x10), none, none, none, none, none, none, none]) (st1 := []) (σ1 := (wi σ 0 26 z8)) rfl h9 ?_
          refine go_n 6 (f := (341, [some (.ref 0), some (.int x1), some (.int x2), none, none, none, some (.int x6), some (.int x7), some (.long x8), none, some (.long x10), none, none, none, none, none, none, none], [], (wi (wi (wi σ 0 26 z8) 0 22 x6) 0 23 x7))) rfl ?_
          refine go_e (L1 := [some (.ref 0), some (.int x1), some (.int x2), none, none, none, none, none, some (.long x8), none, some (.long x10), none, none, none, none, none, none, none]) rfl rfl ?_
          exact fX0_joins_J341_ok _ _ _ _  _  _ hf
      · by_cases h6 : (gi σ 0 24) ≤ 0
        · refine go_it (t := 318) (f := 303) (L1 := [some (.ref 0), some (.int x1), some (.int x2), some (.int x3), some (.int x4), some (.int x5), some (.int x6), some (.int x7), some (.long x8), none, some (.long x10), none, some (.int x12), none, none, none, none, none]) (st1 := [.ref 0]) (σ1 := σ) rfl h6 ?_
          refine go_e (L1 := [some (.ref 0), some (.int x1), some (.int x2), none, none, none, some (.int x6), some (.int x7), some (.long x8), none, some (.long x10), none, none, none, none, none, none, none]) rfl rfl ?_
          refine go_n 1 (f := (319, [some (.ref 0), some (.int x1), some (.int x2), none, none, none, some (.int x6), some (.int x7), some (.long x8), none, some (.long x10), none, none, none, none, none, none, none], [.int 0, .ref 0], σ)) rfl ?_
          refine go_e (L1 := [some (.ref 0), some (.int x1), some (.int x2), none, none, none, some (.int x6), some (.int x7), some (.long x8), none, some (.long x10), none, none, none, none, none, none, none]) rfl rfl ?_
          simp only [if_pos h6] at hJ21
          first | exact hJ21 | (simp only [if_pos h6]; exact hJ21)
        · refine go_if (t := 318) (f := 303) (L1 := [some (.ref 0), some (.int x1), some (.int x2), some (.int x3), some (.int x4), some (.int x5), some (.int x6), some (.int x7), some (.long x8), none, some (.long x10), none, some (.int x12), none, none, none, none, none]) (st1 := [.ref 0]) (σ1 := σ) rfl h6 ?_
          refine go_n 4 (f := (311, [some (.ref 0), some (.int x1), some (.int x2), some (.int x3), some (.int x4), some (.int x5), some (.int x6), some (.int x7), some (.long x8), none, some (.long x10), none, some (.int x12), none, none, none, none, none], [.int (gi σ 0 23), .int (gi σ 0 22), .ref 0], σ)) rfl ?_
          by_cases h7 : (gi σ 0 22) ≤ (gi σ 0 23)
          · refine go_it (t := 318) (f := 314) (L1 := [some (.ref 0), some (.int x1), some (.int x2), some (.int x3), some (.int x4), some (.int x5), some (.int x6), some (.int x7), some (.long x8), none, some (.long x10), none, some (.int x12), none, none, none, none, none]) (st1 := [.ref 0]) (σ1 := σ) rfl h7 ?_
            refine go_e (L1 := [some (.ref 0), some (.int x1), some (.int x2), none, none, none, some (.int x6), some (.int x7), some (.long x8), none, some (.long x10), none, none, none, none, none, none, none]) rfl rfl ?_
            refine go_n 1 (f := (319, [some (.ref 0), some (.int x1), some (.int x2), none, none, none, some (.int x6), some (.int x7), some (.long x8), none, some (.long x10), none, none, none, none, none, none, none], [.int 0, .ref 0], σ)) rfl ?_
            refine go_e (L1 := [some (.ref 0), some (.int x1), some (.int x2), none, none, none, some (.int x6), some (.int x7), some (.long x8), none, some (.long x10), none, none, none, none, none, none, none]) rfl rfl ?_
            simp only [if_neg h6, if_pos h7] at hJ21
            first | exact hJ21 | (simp only [if_neg h6, if_pos h7]; exact hJ21)
          · refine go_if (t := 318) (f := 314) (L1 := [some (.ref 0), some (.int x1), some (.int x2), some (.int x3), some (.int x4), some (.int x5), some (.int x6), some (.int x7), some (.long x8), none, some (.long x10), none, some (.int x12), none, none, none, none, none]) (st1 := [.ref 0]) (σ1 := σ) rfl h7 ?_
            refine go_n 2 (f := (319, [some (.ref 0), some (.int x1), some (.int x2), some (.int x3), some (.int x4), some (.int x5), some (.int x6), some (.int x7), some (.long x8), none, some (.long x10), none, some (.int x12), none, none, none, none, none], [.int 1, .ref 0], σ)) rfl ?_
            refine go_e (L1 := [some (.ref 0), some (.int x1), some (.int x2), none, none, none, some (.int x6), some (.int x7), some (.long x8), none, some (.long x10), none, none, none, none, none, none, none]) rfl rfl ?_
            simp only [if_neg h6, if_neg h7] at hJ21
            first | exact hJ21 | (simp only [if_neg h6, if_neg h7]; exact hJ21)
    · rw [if_neg h5] at hf
      refine go_if (t := 295) (f := 61) (L1 := [some (.ref 0), some (.int x1), some (.int x2), some (.int x3), some (.int x4), some (.int x5), some (.int x6), some (.int x7), some (.long x8), none, some (.long x10), none, some (.int x12), none, none, none, none, none]) (st1 := []) (σ1 := σ) rfl h5 ?_
      refine go_n 7 (f := (77, [some (.ref 0), some (.int x1), some (.int x2), some (.int x3), some (.int x4), some (.int x5), some (.int x6), some (.int x7), some (.long x8), none, some (.long x10), none, some (.int x12), none, none, none, none, none], [.int x12, .ref 2, .ref 15], σ)) rfl ?_
      obtain ⟨q22, h23, hf⟩ := bnd hf
      refine go_c (mid := 2825) (args := [.ref 2, .int x12]) (pc := 80) (L := [some (.ref 0), some (.int x1), some (.int x2), some (.int x3), some (.int x4), some (.int x5), some (.int x6), some (.int x7), some (.long x8), none, some (.long x10), none, some (.int x12), none, none, none, none, none]) (st := [.ref 15]) (σ := σ) rfl ((fJ2_get_ok _ _ _ q22 h23).deep (Nat.le_of_ble_eq_true rfl)) ?_
      obtain ⟨h24, hf⟩ := grd hf
      refine go_cast rfl rfl rfl h24 ?_
      obtain ⟨h25, hf⟩ := grd hf
      refine go_get rfl rfl rfl h25 ?_
      obtain ⟨h26, hf⟩ := grd hf
      refine go_iald rfl rfl rfl h26 ?_
      refine go_n 9 (f := (103, [some (.ref 0), some (.int x1), some (.int x2), some (.int x3), some (.int x4), some (.int x5), some (.int x6), some (.int x7), some (.long x8), none, some (.long x10), none, some (.int x12), some (.int (gi σ 15 (gi σ q22 1).toNatClampNeg)), none, none, none, none], [.int ((12 * x1) + (gi σ 15 (gi σ q22 1).toNatClampNeg)), .ref 13], σ)) rfl ?_
      obtain ⟨h27, hf⟩ := grd hf
      refine go_iald rfl rfl rfl h27 ?_
      refine go_n 5 (f := (115, [some (.ref 0), some (.int x1), some (.int x2), some (.int x3), some (.int x4), some (.int x5), some (.int x6), some (.int x7), some (.long x8), none, some (.long x10), none, some (.int x12), some (.int (gi σ 15 (gi σ q22 1).toNatClampNeg)), some (.int (gi σ 13 ((12 * x1) + (gi σ 15 (gi σ q22 1).toNatClampNeg)).toNatClampNeg)), none, none, none], [.int x12, .ref 46], σ)) rfl ?_
      obtain ⟨h28, hf⟩ := grd hf
      refine go_bald rfl rfl (Or.inr rfl) h28 ?_
      by_cases h29 : (gi σ 46 x12.toNatClampNeg) = 0
      · rw [if_pos h29] at hf
        refine go_it (t := 289) (f := 119) (L1 := [some (.ref 0), some (.int x1), some (.int x2), some (.int x3), some (.int x4), some (.int x5), some (.int x6), some (.int x7), some (.long x8), none, some (.long x10), none, some (.int x12), some (.int (gi σ 15 (gi σ q22 1).toNatClampNeg)), some (.int (gi σ 13 ((12 * x1) + (gi σ 15 (gi σ q22 1).toNatClampNeg)).toNatClampNeg)), none, none, none]) (st1 := []) (σ1 := σ) rfl h29 ?_
        refine go_e (L1 := [some (.ref 0), some (.int x1), some (.int x2), some (.int x3), some (.int x4), some (.int x5), some (.int x6), some (.int x7), some (.long x8), none, some (.long x10), none, some (.int x12), none, none, none, none, none]) rfl rfl ?_
        exact fX0_joins_J289_ok _ _ _ _ _ _ _ _ _ _ _ _ hrec46 _ hf
      · rw [if_neg h29] at hf
        refine go_if (t := 289) (f := 119) (L1 := [some (.ref 0), some (.int x1), some (.int x2), some (.int x3), some (.int x4), some (.int x5), some (.int x6), some (.int x7), some (.long x8), none, some (.long x10), none, some (.int x12), some (.int (gi σ 15 (gi σ q22 1).toNatClampNeg)), some (.int (gi σ 13 ((12 * x1) + (gi σ 15 (gi σ q22 1).toNatClampNeg)).toNatClampNeg)), none, none, none]) (st1 := []) (σ1 := σ) rfl h29 ?_
        refine go_n 3 (f := (125, [some (.ref 0), some (.int x1), some (.int x2), some (.int x3), some (.int x4), some (.int x5), some (.int x6), some (.int x7), some (.long x8), none, some (.long x10), none, some (.int x12), some (.int (gi σ 15 (gi σ q22 1).toNatClampNeg)), some (.int (gi σ 13 ((12 * x1) + (gi σ 15 (gi σ q22 1).toNatClampNeg)).toNatClampNeg)), none, none, none], [.int x12, .ref 26], σ)) rfl ?_
        obtain ⟨h30, hf⟩ := grd hf
        refine go_iald rfl rfl rfl h30 ?_
        refine go_n 1 (f := (127, [some (.ref 0), some (.int x1), some (.int x2), some (.int x3), some (.int x4), some (.int x5), some (.int x6), some (.int x7), some (.long x8), none, some (.long x10), none, some (.int x12), some (.int (gi σ 15 (gi σ q22 1).toNatClampNeg)), some (.int (gi σ 13 ((12 * x1) + (gi σ 15 (gi σ q22 1).toNatClampNeg)).toNatClampNeg)), none, none, none], [.int (-1), .int (gi σ 26 x12.toNatClampNeg)], σ)) rfl ?_
        by_cases h31 : (gi σ 26 x12.toNatClampNeg) ≠ (-1)
        · rw [if_pos h31] at hf
          refine go_it (t := 289) (f := 130) (L1 := [some (.ref 0), some (.int x1), some (.int x2), some (.int x3), some (.int x4), some (.int x5), some (.int x6), some (.int x7), some (.long x8), none, some (.long x10), none, some (.int x12), some (.int (gi σ 15 (gi σ q22 1).toNatClampNeg)), some (.int (gi σ 13 ((12 * x1) + (gi σ 15 (gi σ q22 1).toNatClampNeg)).toNatClampNeg)), none, none, none]) (st1 := []) (σ1 := σ) rfl h31 ?_
          refine go_e (L1 := [some (.ref 0), some (.int x1), some (.int x2), some (.int x3), some (.int x4), some (.int x5), some (.int x6), some (.int x7), some (.long x8), none, some (.long x10), none, some (.int x12), none, none, none, none, none]) rfl rfl ?_
          exact fX0_joins_J289_ok _ _ _ _ _ _ _ _ _ _ _ _ hrec46 _ hf
        · rw [if_neg h31] at hf
          refine go_if (t := 289) (f := 130) (L1 := [some (.ref 0), some (.int x1), some (.int x2), some (.int x3), some (.int x4), some (.int x5), some (.int x6), some (.int x7), some (.long x8), none, some (.long x10), none, some (.int x12), some (.int (gi σ 15 (gi σ q22 1).toNatClampNeg)), some (.int (gi σ 13 ((12 * x1) + (gi σ 15 (gi σ q22 1).toNatClampNeg)).toNatClampNeg)), none, none, none]) (st1 := []) (σ1 := σ) rfl h31 ?_
          refine go_n 2 (f := (134, [some (.ref 0), some (.int x1), some (.int x2), some (.int x3), some (.int x4), some (.int x5), some (.int x6), some (.int x7), some (.long x8), none, some (.long x10), none, some (.int x12), some (.int (gi σ 15 (gi σ q22 1).toNatClampNeg)), some (.int (gi σ 13 ((12 * x1) + (gi σ 15 (gi σ q22 1).toNatClampNeg)).toNatClampNeg)), none, none, none], [.int x4, .int (gi σ 15 (gi σ q22 1).toNatClampNeg)], σ)) rfl ?_
          by_cases h32 : (gi σ 15 (gi σ q22 1).toNatClampNeg) = x4
          · rw [if_pos h32] at hf
            refine go_it (t := 289) (f := 137) (L1 := [some (.ref 0), some (.int x1), some (.int x2), some (.int x3), some (.int x4), some (.int x5), some (.int x6), some (.int x7), some (.long x8), none, some (.long x10), none, some (.int x12), some (.int (gi σ 15 (gi σ q22 1).toNatClampNeg)), some (.int (gi σ 13 ((12 * x1) + (gi σ 15 (gi σ q22 1).toNatClampNeg)).toNatClampNeg)), none, none, none]) (st1 := []) (σ1 := σ) rfl h32 ?_
            refine go_e (L1 := [some (.ref 0), some (.int x1), some (.int x2), some (.int x3), some (.int x4), some (.int x5), some (.int x6), some (.int x7), some (.long x8), none, some (.long x10), none, some (.int x12), none, none, none, none, none]) rfl rfl ?_
            exact fX0_joins_J289_ok _ _ _ _ _ _ _ _ _ _ _ _ hrec46 _ hf
          · rw [if_neg h32] at hf
            refine go_if (t := 289) (f := 137) (L1 := [some (.ref 0), some (.int x1), some (.int x2), some (.int x3), some (.int x4), some (.int x5), some (.int x6), some (.int x7), some (.long x8), none, some (.long x10), none, some (.int x12), some (.int (gi σ 15 (gi σ q22 1).toNatClampNeg)), some (.int (gi σ 13 ((12 * x1) + (gi σ 15 (gi σ q22 1).toNatClampNeg)).toNatClampNeg)), none, none, none]) (st1 := []) (σ1 := σ) rfl h32 ?_
            refine go_n 1 (f := (139, [some (.ref 0), some (.int x1), some (.int x2), some (.int x3), some (.int x4), some (.int x5), some (.int x6), some (.int x7), some (.long x8), none, some (.long x10), none, some (.int x12), some (.int (gi σ 15 (gi σ q22 1).toNatClampNeg)), some (.int (gi σ 13 ((12 * x1) + (gi σ 15 (gi σ q22 1).toNatClampNeg)).toNatClampNeg)), none, none, none], [.int (gi σ 13 ((12 * x1) + (gi σ 15 (gi σ q22 1).toNatClampNeg)).toNatClampNeg)], σ)) rfl ?_
            by_cases h33 : (gi σ 13 ((12 * x1) + (gi σ 15 (gi σ q22 1).toNatClampNeg)).toNatClampNeg) = 0
            · rw [if_pos h33] at hf
              refine go_it (t := 289) (f := 142) (L1 := [some (.ref 0), some (.int x1), some (.int x2), some (.int x3), some (.int x4), some (.int x5), some (.int x6), some (.int x7), some (.long x8), none, some (.long x10), none, some (.int x12), some (.int (gi σ 15 (gi σ q22 1).toNatClampNeg)), some (.int (gi σ 13 ((12 * x1) + (gi σ 15 (gi σ q22 1).toNatClampNeg)).toNatClampNeg)), none, none, none]) (st1 := []) (σ1 := σ) rfl h33 ?_
              refine go_e (L1 := [some (.ref 0), some (.int x1), some (.int x2), some (.int x3), some (.int x4), some (.int x5), some (.int x6), some (.int x7), some (.long x8), none, some (.long x10), none, some (.int x12), none, none, none, none, none]) rfl rfl ?_
              exact fX0_joins_J289_ok _ _ _ _ _ _ _ _ _ _ _ _ hrec46 _ hf
            · rw [if_neg h33] at hf
              refine go_if (t := 289) (f := 142) (L1 := [some (.ref 0), some (.int x1), some (.int x2), some (.int x3), some (.int x4), some (.int x5), some (.int x6), some (.int x7), some (.long x8), none, some (.long x10), none, some (.int x12), some (.int (gi σ 15 (gi σ q22 1).toNatClampNeg)), some (.int (gi σ 13 ((12 * x1) + (gi σ 15 (gi σ q22 1).toNatClampNeg)).toNatClampNeg)), none, none, none]) (st1 := []) (σ1 := σ) rfl h33 ?_
              refine go_n 5 (f := (149, [some (.ref 0), some (.int x1), some (.int x2), some (.int x3), some (.int x4), some (.int x5), some (.int x6), some (.int x7), some (.long x8), none, some (.long x10), none, some (.int x12), some (.int (gi σ 15 (gi σ q22 1).toNatClampNeg)), some (.int (gi σ 13 ((12 * x1) + (gi σ 15 (gi σ q22 1).toNatClampNeg)).toNatClampNeg)), none, none, none], [.int x5, .int x3, .int x2, .int x12, .ref 0], σ)) rfl ?_
              obtain ⟨q34, h35, hf⟩ := bnd hf
              refine go_c (mid := 5184) (args := [.ref 0, .int x12, .int x2, .int x3, .int x5]) (pc := 152) (L := [some (.ref 0), some (.int x1), some (.int x2), some (.int x3), some (.int x4), some (.int x5), some (.int x6), some (.int x7), some (.long x8), none, some (.long x10), none, some (.int x12), some (.int (gi σ 15 (gi σ q22 1).toNatClampNeg)), some (.int (gi σ 13 ((12 * x1) + (gi σ 15 (gi σ q22 1).toNatClampNeg)).toNatClampNeg)), none, none, none]) (st := []) (σ := σ) rfl ((fX0_isOn_ok _ _ _ _ _ q34 h35).deep (Nat.le_of_ble_eq_true rfl)) ?_
              by_cases h36 : q34.1 ≠ 0
              · rw [if_pos h36] at hf
                refine go_it (t := 158) (f := 155) (L1 := [some (.ref 0), some (.int x1), some (.int x2), some (.int x3), some (.int x4), some (.int x5), some (.int x6), some (.int x7), some (.long x8), none, some (.long x10), none, some (.int x12), some (.int (gi σ 15 (gi σ q22 1).toNatClampNeg)), some (.int (gi σ 13 ((12 * x1) + (gi σ 15 (gi σ q22 1).toNatClampNeg)).toNatClampNeg)), none, none, none]) (st1 := []) (σ1 := q34.2) rfl h36 ?_
                refine go_n 10 (f := (176, [some (.ref 0), some (.int x1), some (.int x2), some (.int x3), some (.int x4), some (.int x5), some (.int x6), some (.int x7), some (.long x8), none, some (.long x10), none, some (.int x12), some (.int (gi σ 15 (gi σ q22 1).toNatClampNeg)), some (.int (gi σ 13 ((12 * x1) + (gi σ 15 (gi σ q22 1).toNatClampNeg)).toNatClampNeg)), some (.int (100 - (gi σ 13 ((12 * x1) + (gi σ 15 (gi σ q22 1).toNatClampNeg)).toNatClampNeg))), none, none], [.int (100 - (gi σ 13 ((12 * x1) + (gi σ 15 (gi σ q22 1).toNatClampNeg)).toNatClampNeg)), .int (gi q34.2 0 14), .int (gi q34.2 0 22), .ref 0], q34.2)) rfl ?_
                refine go_n 1 (f := (177, [some (.ref 0), some (.int x1), some (.int x2), some (.int x3), some (.int x4), some (.int x5), some (.int x6), some (.int x7), some (.long x8), none, some (.long x10), none, some (.int x12), some (.int (gi σ 15 (gi σ q22 1).toNatClampNeg)), some (.int (gi σ 13 ((12 * x1) + (gi σ 15 (gi σ q22 1).toNatClampNeg)).toNatClampNeg)), some (.int (100 - (gi σ 13 ((12 * x1) + (gi σ 15 (gi σ q22 1).toNatClampNeg)).toNatClampNeg))), none, none], [.int ((gi q34.2 0 14) - (100 - (gi σ 13 ((12 * x1) + (gi σ 15 (gi σ q22 1).toNatClampNeg)).toNatClampNeg))), .int (gi q34.2 0 22), .ref 0], q34.2)) rfl ?_
                obtain ⟨q37, h38, hf⟩ := bnd hf
                refine go_c (mid := 3584) (args := [.int (gi q34.2 0 22), .int ((gi q34.2 0 14) - (100 - (gi σ 13 ((12 * x1) + (gi σ 15 (gi σ q22 1).toNatClampNeg)).toNatClampNeg)))]) (pc := 180) (L := [some (.ref 0), some (.int x1), some (.int x2), some (.int x3), some (.int x4), some (.int x5), some (.int x6), some (.int x7), some (.long x8), none, some (.long x10), none, some (.int x12), some (.int (gi σ 15 (gi σ q22 1).toNatClampNeg)), some (.int (gi σ 13 ((12 * x1) + (gi σ 15 (gi σ q22 1).toNatClampNeg)).toNatClampNeg)), some (.int (100 - (gi σ 13 ((12 * x1) + (gi σ 15 (gi σ q22 1).toNatClampNeg)).toNatClampNeg))), none, none]) (st := [.ref 0]) (σ := q34.2) rfl ((fJ5_max_ok _ _ _ q37 h38).deep (Nat.le_of_ble_eq_true rfl)) ?_
                refine go_n 8 (f := (195, [some (.ref 0), some (.int x1), some (.int x2), some (.int x3), some (.int x4), some (.int x5), some (.int x6), some (.int x7), some (.long x8), none, some (.long x10), none, some (.int x12), some (.int (gi σ 15 (gi σ q22 1).toNatClampNeg)), some (.int (gi σ 13 ((12 * x1) + (gi σ 15 (gi σ q22 1).toNatClampNeg)).toNatClampNeg)), some (.int (100 - (gi σ 13 ((12 * x1) + (gi σ 15 (gi σ q22 1).toNatClampNeg)).toNatClampNeg))), none, none], [.int ((gi q34.2 0 15) + (100 - (gi σ 13 ((12 * x1) + (gi σ 15 (gi σ q22 1).toNatClampNeg)).toNatClampNeg))), .int (gi q34.2 0 23), .ref 0], (wi q34.2 0 22 q37))) rfl ?_
                obtain ⟨q39, h40, hf⟩ := bnd hf
                refine go_c (mid := 3585) (args := [.int (gi q34.2 0 23), .int ((gi q34.2 0 15) + (100 - (gi σ 13 ((12 * x1) + (gi σ 15 (gi σ q22 1).toNatClampNeg)).toNatClampNeg)))]) (pc := 198) (L := [some (.ref 0), some (.int x1), some (.int x2), some (.int x3), some (.int x4), some (.int x5), some (.int x6), some (.int x7), some (.long x8), none, some (.long x10), none, some (.int x12), some (.int (gi σ 15 (gi σ q22 1).toNatClampNeg)), some (.int (gi σ 13 ((12 * x1) + (gi σ 15 (gi σ q22 1).toNatClampNeg)).toNatClampNeg)), some (.int (100 - (gi σ 13 ((12 * x1) + (gi σ 15 (gi σ q22 1).toNatClampNeg)).toNatClampNeg))), none, none]) (st := [.ref 0]) (σ := (wi q34.2 0 22 q37)) rfl ((fJ5_min_ok _ _ _ q39 h40).deep (Nat.le_of_ble_eq_true rfl)) ?_
                refine go_n 6 (f := (210, [some (.ref 0), some (.int x1), some (.int x2), some (.int x3), some (.int x4), some (.int x5), some (.int x6), some (.int x7), some (.long x8), none, some (.long x10), none, some (.int x12), some (.int (gi σ 15 (gi σ q22 1).toNatClampNeg)), some (.int (gi σ 13 ((12 * x1) + (gi σ 15 (gi σ q22 1).toNatClampNeg)).toNatClampNeg)), some (.int (100 - (gi σ 13 ((12 * x1) + (gi σ 15 (gi σ q22 1).toNatClampNeg)).toNatClampNeg))), none, none], [.int ((gi q34.2 0 14) - (100 - (gi σ 13 ((12 * x1) + (gi σ 15 (gi σ q22 1).toNatClampNeg)).toNatClampNeg))), .int x6], (wi (wi q34.2 0 22 q37) 0 23 q39))) rfl ?_
                obtain ⟨q41, h42, hf⟩ := bnd hf
                refine go_c (mid := 3585) (args := [.int x6, .int ((gi q34.2 0 14) - (100 - (gi σ 13 ((12 * x1) + (gi σ 15 (gi σ q22 1).toNatClampNeg)).toNatClampNeg)))]) (pc := 213) (L := [some (.ref 0), some (.int x1), some (.int x2), some (.int x3), some (.int x4), some (.int x5), some (.int x6), some (.int x7), some (.long x8), none, some (.long x10), none, some (.int x12), some (.int (gi σ 15 (gi σ q22 1).toNatClampNeg)), some (.int (gi σ 13 ((12 * x1) + (gi σ 15 (gi σ q22 1).toNatClampNeg)).toNatClampNeg)), some (.int (100 - (gi σ 13 ((12 * x1) + (gi σ 15 (gi σ q22 1).toNatClampNeg)).toNatClampNeg))), none, none]) (st := []) (σ := (wi (wi q34.2 0 22 q37) 0 23 q39)) rfl ((fJ5_min_ok _ _ _ q41 h42).deep (Nat.le_of_ble_eq_true rfl)) ?_
                refine go_n 6 (f := (224, [some (.ref 0), some (.int x1), some (.int x2), some (.int x3), some (.int x4), some (.int x5), some (.int q41), some (.int x7), some (.long x8), none, some (.long x10), none, some (.int x12), some (.int (gi σ 15 (gi σ q22 1).toNatClampNeg)), some (.int (gi σ 13 ((12 * x1) + (gi σ 15 (gi σ q22 1).toNatClampNeg)).toNatClampNeg)), some (.int (100 - (gi σ 13 ((12 * x1) + (gi σ 15 (gi σ q22 1).toNatClampNeg)).toNatClampNeg))), none, none], [.int ((gi q34.2 0 15) + (100 - (gi σ 13 ((12 * x1) + (gi σ 15 (gi σ q22 1).toNatClampNeg)).toNatClampNeg))), .int x7], (wi (wi q34.2 0 22 q37) 0 23 q39))) rfl ?_
                obtain ⟨q43, h44, hf⟩ := bnd hf
                refine go_c (mid := 3584) (args := [.int x7, .int ((gi q34.2 0 15) + (100 - (gi σ 13 ((12 * x1) + (gi σ 15 (gi σ q22 1).toNatClampNeg)).toNatClampNeg)))]) (pc := 227) (L := [some (.ref 0), some (.int x1), some (.int x2), some (.int x3), some (.int x4), some (.int x5), some (.int q41), some (.int x7), some (.long x8), none, some (.long x10), none, some (.int x12), some (.int (gi σ 15 (gi σ q22 1).toNatClampNeg)), some (.int (gi σ 13 ((12 * x1) + (gi σ 15 (gi σ q22 1).toNatClampNeg)).toNatClampNeg)), some (.int (100 - (gi σ 13 ((12 * x1) + (gi σ 15 (gi σ q22 1).toNatClampNeg)).toNatClampNeg))), none, none]) (st := []) (σ := (wi (wi q34.2 0 22 q37) 0 23 q39)) rfl ((fJ5_max_ok _ _ _ q43 h44).deep (Nat.le_of_ble_eq_true rfl)) ?_
                refine go_n 7 (f := (239, [some (.ref 0), some (.int x1), some (.int x2), some (.int x3), some (.int x4), some (.int x5), some (.int q41), some (.int q43), some (.long x8), none, some (.long x10), none, some (.int x12), some (.int (gi σ 15 (gi σ q22 1).toNatClampNeg)), some (.int (gi σ 13 ((12 * x1) + (gi σ 15 (gi σ q22 1).toNatClampNeg)).toNatClampNeg)), some (.int (100 - (gi σ 13 ((12 * x1) + (gi σ 15 (gi σ q22 1).toNatClampNeg)).toNatClampNeg))), some (.long ((gi σ 13 ((12 * x1) + (gi σ 15 (gi σ q22 1).toNatClampNeg)).toNatClampNeg).toInt64 * (gl q34.2 0 28))), none], [], (wi (wi q34.2 0 22 q37) 0 23 q39))) rfl ?_
                refine go_n 10 (f := (255, [some (.ref 0), some (.int x1), some (.int x2), some (.int x3), some (.int x4), some (.int x5), some (.int q41), some (.int q43), some (.long x8), none, some (.long x10), none, some (.int x12), some (.int (gi σ 15 (gi σ q22 1).toNatClampNeg)), some (.int (gi σ 13 ((12 * x1) + (gi σ 15 (gi σ q22 1).toNatClampNeg)).toNatClampNeg)), some (.int (100 - (gi σ 13 ((12 * x1) + (gi σ 15 (gi σ q22 1).toNatClampNeg)).toNatClampNeg))), some (.long ((gi σ 13 ((12 * x1) + (gi σ 15 (gi σ q22 1).toNatClampNeg)).toNatClampNeg).toInt64 * (gl q34.2 0 28))), none], [.long (x8 + (((gi σ 13 ((12 * x1) + (gi σ 15 (gi σ q22 1).toNatClampNeg)).toNatClampNeg).toInt64 * (gl q34.2 0 28)) * ((gi q34.2 0 14) + (gi q34.2 0 15)).toInt64))], (wi (wi q34.2 0 22 q37) 0 23 q39))) rfl ?_
                refine go_n 7 (f := (268, [some (.ref 0), some (.int x1), some (.int x2), some (.int x3), some (.int x4), some (.int x5), some (.int q41), some (.int q43), some (.long (x8 + (((gi σ 13 ((12 * x1) + (gi σ 15 (gi σ q22 1).toNatClampNeg)).toNatClampNeg).toInt64 * (gl q34.2 0 28)) * ((gi q34.2 0 14) + (gi q34.2 0 15)).toInt64))), none, some (.long (x10 + (2 * ((gi σ 13 ((12 * x1) + (gi σ 15 (gi σ q22 1).toNatClampNeg)).toNatClampNeg).toInt64 * (gl q34.2 0 28))))), none, some (.int x12), some (.int (gi σ 15 (gi σ q22 1).toNatClampNeg)), some (.int (gi σ 13 ((12 * x1) + (gi σ 15 (gi σ q22 1).toNatClampNeg)).toNatClampNeg)), some (.int (100 - (gi σ 13 ((12 * x1) + (gi σ 15 (gi σ q22 1).toNatClampNeg)).toNatClampNeg))), some (.long ((gi σ 13 ((12 * x1) + (gi σ 15 (gi σ q22 1).toNatClampNeg)).toNatClampNeg).toInt64 * (gl q34.2 0 28))), none], [], (wi (wi q34.2 0 22 q37) 0 23 q39))) rfl ?_
                refine go_n 5 (f := (278, [some (.ref 0), some (.int x1), some (.int x2), some (.int x3), some (.int x4), some (.int x5), some (.int q41), some (.int q43), some (.long (x8 + (((gi σ 13 ((12 * x1) + (gi σ 15 (gi σ q22 1).toNatClampNeg)).toNatClampNeg).toInt64 * (gl q34.2 0 28)) * ((gi q34.2 0 14) + (gi q34.2 0 15)).toInt64))), none, some (.long (x10 + (2 * ((gi σ 13 ((12 * x1) + (gi σ 15 (gi σ q22 1).toNatClampNeg)).toNatClampNeg).toInt64 * (gl q34.2 0 28))))), none, some (.int x12), some (.int (gi σ 15 (gi σ q22 1).toNatClampNeg)), some (.int (gi σ 13 ((12 * x1) + (gi σ 15 (gi σ q22 1).toNatClampNeg)).toNatClampNeg)), some (.int (100 - (gi σ 13 ((12 * x1) + (gi σ 15 (gi σ q22 1).toNatClampNeg)).toNatClampNeg))), some (.long ((gi σ 13 ((12 * x1) + (gi σ 15 (gi σ q22 1).toNatClampNeg)).toNatClampNeg).toInt64 * (gl q34.2 0 28))), none], [.int x12, .int (gi q34.2 0 24), .ref 48], (wi (wi q34.2 0 22 q37) 0 23 q39))) rfl ?_
                obtain ⟨h45, hf⟩ := grd hf
                refine go_iast rfl rfl rfl h45 ?_
                refine go_n 6 (f := (289, [some (.ref 0), some (.int x1), some (.int x2), some (.int x3), some (.int x4), some (.int x5), some (.int q41), some (.int q43), some (.long (x8 + (((gi σ 13 ((12 * x1) + (gi σ 15 (gi σ q22 1).toNatClampNeg)).toNatClampNeg).toInt64 * (gl q34.2 0 28)) * ((gi q34.2 0 14) + (gi q34.2 0 15)).toInt64))), none, some (.long (x10 + (2 * ((gi σ 13 ((12 * x1) + (gi σ 15 (gi σ q22 1).toNatClampNeg)).toNatClampNeg).toInt64 * (gl q34.2 0 28))))), none, some (.int x12), some (.int (gi σ 15 (gi σ q22 1).toNatClampNeg)), some (.int (gi σ 13 ((12 * x1) + (gi σ 15 (gi σ q22 1).toNatClampNeg)).toNatClampNeg)), some (.int (100 - (gi σ 13 ((12 * x1) + (gi σ 15 (gi σ q22 1).toNatClampNeg)).toNatClampNeg))), some (.long ((gi σ 13 ((12 * x1) + (gi σ 15 (gi σ q22 1).toNatClampNeg)).toNatClampNeg).toInt64 * (gl q34.2 0 28))), none], [], (wi (wi (wi (wi q34.2 0 22 q37) 0 23 q39) 48 (gi q34.2 0 24).toNatClampNeg x12) 0 24 ((gi q34.2 0 24) + 1)))) rfl ?_
                refine go_e (L1 := [some (.ref 0), some (.int x1), some (.int x2), some (.int x3), some (.int x4), some (.int x5), some (.int q41), some (.int q43), some (.long (x8 + (((gi σ 13 ((12 * x1) + (gi σ 15 (gi σ q22 1).toNatClampNeg)).toNatClampNeg).toInt64 * (gl q34.2 0 28)) * ((gi q34.2 0 14) + (gi q34.2 0 15)).toInt64))), none, some (.long (x10 + (2 * ((gi σ 13 ((12 * x1) + (gi σ 15 (gi σ q22 1).toNatClampNeg)).toNatClampNeg).toInt64 * (gl q34.2 0 28))))), none, some (.int x12), none, none, none, none, none]) rfl rfl ?_
                exact fX0_joins_J289_ok _ _ _ _ _ _ _ _ _ _ _ _ hrec46 _ hf
              · rw [if_neg h36] at hf
                refine go_if (t := 158) (f := 155) (L1 := [some (.ref 0), some (.int x1), some (.int x2), some (.int x3), some (.int x4), some (.int x5), some (.int x6), some (.int x7), some (.long x8), none, some (.long x10), none, some (.int x12), some (.int (gi σ 15 (gi σ q22 1).toNatClampNeg)), some (.int (gi σ 13 ((12 * x1) + (gi σ 15 (gi σ q22 1).toNatClampNeg)).toNatClampNeg)), none, none, none]) (st1 := []) (σ1 := q34.2) rfl h36 ?_
                refine go_n 1 (f := (289, [some (.ref 0), some (.int x1), some (.int x2), some (.int x3), some (.int x4), some (.int x5), some (.int x6), some (.int x7), some (.long x8), none, some (.long x10), none, some (.int x12), some (.int (gi σ 15 (gi σ q22 1).toNatClampNeg)), some (.int (gi σ 13 ((12 * x1) + (gi σ 15 (gi σ q22 1).toNatClampNeg)).toNatClampNeg)), none, none, none], [], q34.2)) rfl ?_
                refine go_e (L1 := [some (.ref 0), some (.int x1), some (.int x2), some (.int x3), some (.int x4), some (.int x5), some (.int x6), some (.int x7), some (.long x8), none, some (.long x10), none, some (.int x12), none, none, none, none, none]) rfl rfl ?_
                exact fX0_joins_J289_ok _ _ _ _ _ _ _ _ _ _ _ _ hrec46 _ hf
def fX0_joins (x1 : Int32) (x2 : Int32) (x3 : Int32) (x4 : Int32) (x5 : Int32) (σ : Sg) : Option Sg :=
  (fX6_looks x3 σ).bind fun q1 => lp (fX0_joins_L46 x1 x2 x3 x4 x5 ) N0 (1200, (-1200), 0, 0, 0, (wi (wi (wi q1 0 24 0) 0 22 (-1200)) 0 23 1200))
set_option maxHeartbeats 1500000 in
theorem fX0_joins_ok (x1 : Int32) (x2 : Int32) (x3 : Int32) (x4 : Int32) (x5 : Int32) (σ : Sg) (r : Sg) (hf : fX0_joins x1 x2 x3 x4 x5 σ = some r) : Cl true 3248 5183 [.ref 0, .int x1, .int x2, .int x3, .int x4, .int x5] σ (.inl none, r) := by
  refine ⟨iX0_joins, rfl, Nat.le_of_ble_eq_true rfl, Nat.le_of_ble_eq_true rfl, ?_⟩
  show Go true 3248 iX0_joins (0, [some (.ref 0), some (.int x1), some (.int x2), some (.int x3), some (.int x4), some (.int x5), none, none, none, none, none, none, none, none, none, none, none, none], [], σ) (.inl none, r)
  unfold fX0_joins at hf
  refine go_n 3 (f := (5, [some (.ref 0), some (.int x1), some (.int x2), some (.int x3), some (.int x4), some (.int x5), none, none, none, none, none, none, none, none, none, none, none, none], [.int x3, .ref 39], σ)) rfl ?_
  obtain ⟨q1, h2, hf⟩ := bnd hf
  refine go_c (mid := 11777) (args := [.ref 39, .int x3]) (pc := 8) (L := [some (.ref 0), some (.int x1), some (.int x2), some (.int x3), some (.int x4), some (.int x5), none, none, none, none, none, none, none, none, none, none, none, none]) (st := []) (σ := σ) rfl ((fX6_looks_ok _ _ q1 h2).deep (Nat.le_of_ble_eq_true rfl)) ?_
  refine go_n 5 (f := (18, [some (.ref 0), some (.int x1), some (.int x2), some (.int x3), some (.int x4), some (.int x5), some (.int 1200), none, none, none, none, none, none, none, none, none, none, none], [], (wi q1 0 24 0))) rfl ?_
  refine go_n 5 (f := (30, [some (.ref 0), some (.int x1), some (.int x2), some (.int x3), some (.int x4), some (.int x5), some (.int 1200), some (.int (-1200)), none, none, none, none, none, none, none, none, none, none], [], (wi (wi q1 0 24 0) 0 22 (-1200)))) rfl ?_
  refine go_n 5 (f := (40, [some (.ref 0), some (.int x1), some (.int x2), some (.int x3), some (.int x4), some (.int x5), some (.int 1200), some (.int (-1200)), some (.long 0), none, none, none, none, none, none, none, none, none], [], (wi (wi (wi q1 0 24 0) 0 22 (-1200)) 0 23 1200))) rfl ?_
  refine go_n 4 (f := (46, [some (.ref 0), some (.int x1), some (.int x2), some (.int x3), some (.int x4), some (.int x5), some (.int 1200), some (.int (-1200)), some (.long 0), none, some (.long 0), none, some (.int 0), none, none, none, none, none], [], (wi (wi (wi q1 0 24 0) 0 22 (-1200)) 0 23 1200))) rfl ?_
  exact fX0_joins_L46_ok _ _ _ _ _   N0 _ _ _ _ _ _ _ hf
/-! OldWeather.led(IIII)I -/
def fX0_led (x1 : Int32) (x2 : Int32) (x3 : Int32) (x4 : Int32) (σ : Sg) : Option (Int32 × Sg) :=
  (fX0_isPlace x1 σ).bind fun q1 => if q1 = 0 then some ((-1), σ) else (fX0_isDay x2).bind fun q4 => if q4 = 0 then some ((-1), σ) else (fX0_isDesk x3).bind fun q7 => if q7 ≠ 0 then (fX0_joins x1 x2 x3 (-1) 0 σ).bind fun q10 => (fX0_in x4 0 ((gi q10 0 24) - 1)).bind fun q12 => if q12 = 0 then some ((-1), q10) else if inb x4 200 then some ((gi q10 48 x4.toNatClampNeg), q10) else none else some ((-1), σ)
set_option maxHeartbeats 1500000 in
theorem fX0_led_ok (x1 : Int32) (x2 : Int32) (x3 : Int32) (x4 : Int32) (σ : Sg) (r : (Int32 × Sg)) (hf : fX0_led x1 x2 x3 x4 σ = some r) : Cl true 3249 5186 [.ref 0, .int x1, .int x2, .int x3, .int x4] σ (.inl (some (.int (r).1)), (r).2) := by
  refine ⟨iX0_led, rfl, Nat.le_of_ble_eq_true rfl, Nat.le_of_ble_eq_true rfl, ?_⟩
  show Go true 3249 iX0_led (0, [some (.ref 0), some (.int x1), some (.int x2), some (.int x3), some (.int x4)], [], σ) (.inl (some (.int (r).1)), (r).2)
  unfold fX0_led at hf
  refine go_n 2 (f := (2, [some (.ref 0), some (.int x1), some (.int x2), some (.int x3), some (.int x4)], [.int x1, .ref 0], σ)) rfl ?_
  obtain ⟨q1, h2, hf⟩ := bnd hf
  refine go_c (mid := 5139) (args := [.ref 0, .int x1]) (pc := 5) (L := [some (.ref 0), some (.int x1), some (.int x2), some (.int x3), some (.int x4)]) (st := []) (σ := σ) rfl ((fX0_isPlace_ok _ _ q1 h2).deep (Nat.le_of_ble_eq_true rfl)) ?_
  by_cases h3 : q1 = 0
  · rw [if_pos h3] at hf
    refine go_it (t := 22) (f := 8) (L1 := [some (.ref 0), some (.int x1), some (.int x2), some (.int x3), some (.int x4)]) (st1 := []) (σ1 := σ) rfl h3 ?_
    refine go_e (L1 := [none, none, none, none, none]) rfl rfl ?_
    refine go_n 1 (f := (23, [none, none, none, none, none], [.int (-1)], σ)) rfl ?_
    cases hf
    exact go_r rfl
  · rw [if_neg h3] at hf
    refine go_if (t := 22) (f := 8) (L1 := [some (.ref 0), some (.int x1), some (.int x2), some (.int x3), some (.int x4)]) (st1 := []) (σ1 := σ) rfl h3 ?_
    refine go_n 1 (f := (9, [some (.ref 0), some (.int x1), some (.int x2), some (.int x3), some (.int x4)], [.int x2], σ)) rfl ?_
    obtain ⟨q4, h5, hf⟩ := bnd hf
    refine go_c (mid := 5128) (args := [.int x2]) (pc := 12) (L := [some (.ref 0), some (.int x1), some (.int x2), some (.int x3), some (.int x4)]) (st := []) (σ := σ) rfl ((fX0_isDay_ok _ _ q4 h5).deep (Nat.le_of_ble_eq_true rfl)) ?_
    by_cases h6 : q4 = 0
    · rw [if_pos h6] at hf
      refine go_it (t := 22) (f := 15) (L1 := [some (.ref 0), some (.int x1), some (.int x2), some (.int x3), some (.int x4)]) (st1 := []) (σ1 := σ) rfl h6 ?_
      refine go_e (L1 := [none, none, none, none, none]) rfl rfl ?_
      refine go_n 1 (f := (23, [none, none, none, none, none], [.int (-1)], σ)) rfl ?_
      cases hf
      exact go_r rfl
    · rw [if_neg h6] at hf
      refine go_if (t := 22) (f := 15) (L1 := [some (.ref 0), some (.int x1), some (.int x2), some (.int x3), some (.int x4)]) (st1 := []) (σ1 := σ) rfl h6 ?_
      refine go_n 1 (f := (16, [some (.ref 0), some (.int x1), some (.int x2), some (.int x3), some (.int x4)], [.int x3], σ)) rfl ?_
      obtain ⟨q7, h8, hf⟩ := bnd hf
      refine go_c (mid := 5147) (args := [.int x3]) (pc := 19) (L := [some (.ref 0), some (.int x1), some (.int x2), some (.int x3), some (.int x4)]) (st := []) (σ := σ) rfl ((fX0_isDesk_ok _ _ q7 h8).deep (Nat.le_of_ble_eq_true rfl)) ?_
      by_cases h9 : q7 ≠ 0
      · rw [if_pos h9] at hf
        refine go_it (t := 24) (f := 22) (L1 := [some (.ref 0), some (.int x1), some (.int x2), some (.int x3), some (.int x4)]) (st1 := []) (σ1 := σ) rfl h9 ?_
        refine go_n 6 (f := (30, [some (.ref 0), some (.int x1), some (.int x2), some (.int x3), some (.int x4)], [.int 0, .int (-1), .int x3, .int x2, .int x1, .ref 0], σ)) rfl ?_
        obtain ⟨q10, h11, hf⟩ := bnd hf
        refine go_c (mid := 5183) (args := [.ref 0, .int x1, .int x2, .int x3, .int (-1), .int 0]) (pc := 33) (L := [some (.ref 0), some (.int x1), some (.int x2), some (.int x3), some (.int x4)]) (st := []) (σ := σ) rfl ((fX0_joins_ok _ _ _ _ _ _ q10 h11).deep (Nat.le_of_ble_eq_true rfl)) ?_
        refine go_n 6 (f := (42, [some (.ref 0), some (.int x1), some (.int x2), some (.int x3), some (.int x4)], [.int ((gi q10 0 24) - 1), .int 0, .int x4], q10)) rfl ?_
        obtain ⟨q12, h13, hf⟩ := bnd hf
        refine go_c (mid := 5122) (args := [.int x4, .int 0, .int ((gi q10 0 24) - 1)]) (pc := 45) (L := [some (.ref 0), some (.int x1), some (.int x2), some (.int x3), some (.int x4)]) (st := []) (σ := q10) rfl ((fX0_in_ok _ _ _ _ q12 h13).deep (Nat.le_of_ble_eq_true rfl)) ?_
        by_cases h14 : q12 = 0
        · rw [if_pos h14] at hf
          refine go_it (t := 58) (f := 48) (L1 := [some (.ref 0), some (.int x1), some (.int x2), some (.int x3), some (.int x4)]) (st1 := []) (σ1 := q10) rfl h14 ?_
          refine go_n 1 (f := (59, [some (.ref 0), some (.int x1), some (.int x2), some (.int x3), some (.int x4)], [.int (-1)], q10)) rfl ?_
          refine go_e (L1 := [none, none, none, none, none]) rfl rfl ?_
          cases hf
          exact go_r rfl
        · rw [if_neg h14] at hf
          refine go_if (t := 58) (f := 48) (L1 := [some (.ref 0), some (.int x1), some (.int x2), some (.int x3), some (.int x4)]) (st1 := []) (σ1 := q10) rfl h14 ?_
          refine go_n 3 (f := (54, [some (.ref 0), some (.int x1), some (.int x2), some (.int x3), some (.int x4)], [.int x4, .ref 48], q10)) rfl ?_
          obtain ⟨h15, hf⟩ := grd hf
          refine go_iald rfl rfl rfl h15 ?_
          refine go_n 1 (f := (59, [some (.ref 0), some (.int x1), some (.int x2), some (.int x3), some (.int x4)], [.int (gi q10 48 x4.toNatClampNeg)], q10)) rfl ?_
          refine go_e (L1 := [none, none, none, none, none]) rfl rfl ?_
          cases hf
          exact go_r rfl
      · rw [if_neg h9] at hf
        refine go_if (t := 24) (f := 22) (L1 := [some (.ref 0), some (.int x1), some (.int x2), some (.int x3), some (.int x4)]) (st1 := []) (σ1 := σ) rfl h9 ?_
        refine go_e (L1 := [none, none, none, none, none]) rfl rfl ?_
        refine go_n 1 (f := (23, [none, none, none, none, none], [.int (-1)], σ)) rfl ?_
        cases hf
        exact go_r rfl
/-! OldWeather.left(IIIII)I -/
def fX0_left_J219 (x1 : Int32) (x2 : Int32) (x3 : Int32) (x4 : Int32) (x5 : Int32) (x6 : Int32) (x7 : Int32) (x8 : Int32) (rec72 : (Int32 × Int32 × Int32 × Sg) → Option (Int32 × Sg)) (σ : Sg) : Option (Int32 × Sg) :=
  rec72 (x6, x7, (x8 + 1), σ)
set_option maxHeartbeats 1500000 in
theorem fX0_left_J219_ok (x1 : Int32) (x2 : Int32) (x3 : Int32) (x4 : Int32) (x5 : Int32) (x6 : Int32) (x7 : Int32) (x8 : Int32) (rec72 : (Int32 × Int32 × Int32 × Sg) → Option (Int32 × Sg)) (σ : Sg) (hrec72 : ∀ (y6 : Int32) (y7 : Int32) (y8 : Int32) (τ : Sg) (r : (Int32 × Sg)), rec72 (y6, y7, y8, τ) = some r → Go true 3249 iX0_left (72, [some (.ref 0), some (.int x1), some (.int x2), some (.int x3), some (.int x4), some (.int x5), some (.int y6), some (.int y7), some (.int y8), none], [], τ) (.inl (some (.int (r).1)), (r).2)) (r : (Int32 × Sg)) (hf : fX0_left_J219 x1 x2 x3 x4 x5 x6 x7 x8 rec72 σ = some r) : Go true 3249 iX0_left (219, [some (.ref 0), some (.int x1), some (.int x2), some (.int x3), some (.int x4), some (.int x5), some (.int x6), some (.int x7), some (.int x8), none], [], σ) (.inl (some (.int (r).1)), (r).2) := by
  unfold fX0_left_J219 at hf
  refine go_n 2 (f := (72, [some (.ref 0), some (.int x1), some (.int x2), some (.int x3), some (.int x4), some (.int x5), some (.int x6), some (.int x7), some (.int (x8 + 1)), none], [], σ)) rfl ?_
  exact hrec72 _ _ _ _ _ hf
def fX0_left_L72 (x1 : Int32) (x2 : Int32) (x3 : Int32) (x4 : Int32) (x5 : Int32)  (rec72 : (Int32 × Int32 × Int32 × Sg) → Option (Int32 × Sg)) (s : Int32 × Int32 × Int32 × Sg) : Option (Int32 × Sg) :=
  match s with
  | (x6, x7, x8, σ) => (fJ2_size 2 σ).bind fun q19 => if q19 ≤ x8 then ((fun (z23 : Int32) => some (z23, σ)) (if x5 ≠ 0 then x6 else x7)) else (fJ2_get 2 x8 σ).bind fun q25 => if [17, 18, 19, 20, 21].elem (kk σ q25) = true then if [17, 18, 19, 20, 21].elem (kk σ q25) = true then if inb (gi σ q25 1) 16 then if (gi σ 15 (gi σ q25 1).toNatClampNeg) ≠ x1 then fX0_left_J219 x1 x2 x3 x4 x5 x6 x7 x8 rec72 σ else (fX6_isJoined x8 σ).bind fun q31 => if q31 = 0 then fX0_left_J219 x1 x2 x3 x4 x5 x6 x7 x8 rec72 σ else if inb x8 200 then (fX0_in (gi σ 25 x8.toNatClampNeg) x2 x3).bind fun q35 => if q35 ≠ 0 then if inb x8 200 then (fX0_joins x1 (gi σ 25 x8.toNatClampNeg) x4 x1 0 σ).bind fun q39 => if inb x8 200 then if inb x8 200 then (fJ5_floorDiv_2 ((gi q39 41 x8.toNatClampNeg) + (gi q39 42 x8.toNatClampNeg)) 2).bind fun q43 => (fX0_in q43 (gi q39 0 22) (gi q39 0 23)).bind fun q45 => ((fun (z48 : Int32) => fX0_left_J219 x1 x2 x3 x4 x5 (x6 + 1) (x7 + z48) x8 rec72 q39) ((if q45 = 0 then 0 else 1) : Int32)) else none else none else none else fX0_left_J219 x1 x2 x3 x4 x5 x6 x7 x8 rec72 σ else none else none else none else none
set_option maxHeartbeats 1500000 in
theorem fX0_left_L72_ok (x1 : Int32) (x2 : Int32) (x3 : Int32) (x4 : Int32) (x5 : Int32)   : ∀ (n : Nat) (x6 : Int32) (x7 : Int32) (x8 : Int32) (σ : Sg) (r : (Int32 × Sg)), lp (fX0_left_L72 x1 x2 x3 x4 x5 ) n (x6, x7, x8, σ) = some r → Go true 3249 iX0_left (72, [some (.ref 0), some (.int x1), some (.int x2), some (.int x3), some (.int x4), some (.int x5), some (.int x6), some (.int x7), some (.int x8), none], [], σ) (.inl (some (.int (r).1)), (r).2) := by
  intro n
  induction n with
  | zero => intro x6 x7 x8 σ r hf; cases hf
  | succ n ih =>
    intro x6 x7 x8 σ r hf
    have hf : fX0_left_L72 x1 x2 x3 x4 x5  (lp (fX0_left_L72 x1 x2 x3 x4 x5 ) n) (x6, x7, x8, σ) = some r := hf
    have hrec72 := ih
    generalize lp (fX0_left_L72 x1 x2 x3 x4 x5 ) n = rec72 at hf hrec72
    unfold fX0_left_L72 at hf
    dsimp only at hf
    refine go_n 4 (f := (81, [some (.ref 0), some (.int x1), some (.int x2), some (.int x3), some (.int x4), some (.int x5), some (.int x6), some (.int x7), some (.int x8), none], [.ref 2, .int x8], σ)) rfl ?_
    obtain ⟨q19, h20, hf⟩ := bnd hf
    refine go_c (mid := 2821) (args := [.ref 2]) (pc := 84) (L := [some (.ref 0), some (.int x1), some (.int x2), some (.int x3), some (.int x4), some (.int x5), some (.int x6), some (.int x7), some (.int x8), none]) (st := [.int x8]) (σ := σ) rfl ((fJ2_size_ok _ _ q19 h20).deep (Nat.le_of_ble_eq_true rfl)) ?_
    by_cases h21 : q19 ≤ x8
    · rw [if_pos h21] at hf
      refine go_it (t := 225) (f := 87) (L1 := [some (.ref 0), some (.int x1), some (.int x2), some (.int x3), some (.int x4), some (.int x5), some (.int x6), some (.int x7), some (.int x8), none]) (st1 := []) (σ1 := σ) rfl h21 ?_
      refine go_n 1 (f := (227, [some (.ref 0), some (.int x1), some (.int x2), some (.int x3), some (.int x4), some (.int x5), some (.int x6), some (.int x7), some (.int x8), none], [.int x5], σ)) rfl ?_
      refine go_m (f := (237, [none, none, none, none, none, none, none, none, none, none], [.int (if x5 ≠ 0 then x6 else x7)], σ)) ?_ (fun hJ24 => ?_)
      · generalize hz23 : (if x5 ≠ 0 then x6 else x7) = z23 at hf ⊢
        try dsimp only at hf
        cases hf
        exact go_r rfl
      · by_cases h22 : x5 ≠ 0
        · refine go_it (t := 235) (f := 230) (L1 := [some (.ref 0), some (.int x1), some (.int x2), some (.int x3), some (.int x4), some (.int x5), some (.int x6), some (.int x7), some (.int x8), none]) (st1 := []) (σ1 := σ) rfl h22 ?_
          refine go_n 1 (f := (237, [some (.ref 0), some (.int x1), some (.int x2), some (.int x3), some (.int x4), some (.int x5), some (.int x6), some (.int x7), some (.int x8), none], [.int x6], σ)) rfl ?_
          refine go_e (L1 := [none, none, none, none, none, none, none, none, none, none]) rfl rfl ?_
          simp only [if_pos h22] at hJ24
          first | exact hJ24 | (simp only [if_pos h22]; exact hJ24)
        · refine go_if (t := 235) (f := 230) (L1 := [some (.ref 0), some (.int x1), some (.int x2), some (.int x3), some (.int x4), some (.int x5), some (.int x6), some (.int x7), some (.int x8), none]) (st1 := []) (σ1 := σ) rfl h22 ?_
          refine go_n 2 (f := (237, [some (.ref 0), some (.int x1), some (.int x2), some (.int x3), some (.int x4), some (.int x5), some (.int x6), some (.int x7), some (.int x8), none], [.int x7], σ)) rfl ?_
          refine go_e (L1 := [none, none, none, none, none, none, none, none, none, none]) rfl rfl ?_
          simp only [if_neg h22] at hJ24
          first | exact hJ24 | (simp only [if_neg h22]; exact hJ24)
    · rw [if_neg h21] at hf
      refine go_if (t := 225) (f := 87) (L1 := [some (.ref 0), some (.int x1), some (.int x2), some (.int x3), some (.int x4), some (.int x5), some (.int x6), some (.int x7), some (.int x8), none]) (st1 := []) (σ1 := σ) rfl h21 ?_
      refine go_n 7 (f := (103, [some (.ref 0), some (.int x1), some (.int x2), some (.int x3), some (.int x4), some (.int x5), some (.int x6), some (.int x7), some (.int x8), none], [.int x8, .ref 2, .ref 15], σ)) rfl ?_
      obtain ⟨q25, h26, hf⟩ := bnd hf
      refine go_c (mid := 2825) (args := [.ref 2, .int x8]) (pc := 106) (L := [some (.ref 0), some (.int x1), some (.int x2), some (.int x3), some (.int x4), some (.int x5), some (.int x6), some (.int x7), some (.int x8), none]) (st := [.ref 15]) (σ := σ) rfl ((fJ2_get_ok _ _ _ q25 h26).deep (Nat.le_of_ble_eq_true rfl)) ?_
      obtain ⟨h27, hf⟩ := grd hf
      refine go_cast rfl rfl rfl h27 ?_
      obtain ⟨h28, hf⟩ := grd hf
      refine go_get rfl rfl rfl h28 ?_
      obtain ⟨h29, hf⟩ := grd hf
      refine go_iald rfl rfl rfl h29 ?_
      refine go_n 1 (f := (114, [some (.ref 0), some (.int x1), some (.int x2), some (.int x3), some (.int x4), some (.int x5), some (.int x6), some (.int x7), some (.int x8), none], [.int x1, .int (gi σ 15 (gi σ q25 1).toNatClampNeg)], σ)) rfl ?_
      by_cases h30 : (gi σ 15 (gi σ q25 1).toNatClampNeg) ≠ x1
      · rw [if_pos h30] at hf
        refine go_it (t := 219) (f := 117) (L1 := [some (.ref 0), some (.int x1), some (.int x2), some (.int x3), some (.int x4), some (.int x5), some (.int x6), some (.int x7), some (.int x8), none]) (st1 := []) (σ1 := σ) rfl h30 ?_
        exact fX0_left_J219_ok _ _ _ _ _ _ _ _ _ _ hrec72 _ hf
      · rw [if_neg h30] at hf
        refine go_if (t := 219) (f := 117) (L1 := [some (.ref 0), some (.int x1), some (.int x2), some (.int x3), some (.int x4), some (.int x5), some (.int x6), some (.int x7), some (.int x8), none]) (st1 := []) (σ1 := σ) rfl h30 ?_
        refine go_n 3 (f := (123, [some (.ref 0), some (.int x1), some (.int x2), some (.int x3), some (.int x4), some (.int x5), some (.int x6), some (.int x7), some (.int x8), none], [.int x8, .ref 39], σ)) rfl ?_
        obtain ⟨q31, h32, hf⟩ := bnd hf
        refine go_c (mid := 11783) (args := [.ref 39, .int x8]) (pc := 126) (L := [some (.ref 0), some (.int x1), some (.int x2), some (.int x3), some (.int x4), some (.int x5), some (.int x6), some (.int x7), some (.int x8), none]) (st := []) (σ := σ) rfl ((fX6_isJoined_ok _ _ q31 h32).deep (Nat.le_of_ble_eq_true rfl)) ?_
        by_cases h33 : q31 = 0
        · rw [if_pos h33] at hf
          refine go_it (t := 219) (f := 129) (L1 := [some (.ref 0), some (.int x1), some (.int x2), some (.int x3), some (.int x4), some (.int x5), some (.int x6), some (.int x7), some (.int x8), none]) (st1 := []) (σ1 := σ) rfl h33 ?_
          exact fX0_left_J219_ok _ _ _ _ _ _ _ _ _ _ hrec72 _ hf
        · rw [if_neg h33] at hf
          refine go_if (t := 219) (f := 129) (L1 := [some (.ref 0), some (.int x1), some (.int x2), some (.int x3), some (.int x4), some (.int x5), some (.int x6), some (.int x7), some (.int x8), none]) (st1 := []) (σ1 := σ) rfl h33 ?_
          refine go_n 3 (f := (135, [some (.ref 0), some (.int x1), some (.int x2), some (.int x3), some (.int x4), some (.int x5), some (.int x6), some (.int x7), some (.int x8), none], [.int x8, .ref 25], σ)) rfl ?_
          obtain ⟨h34, hf⟩ := grd hf
          refine go_iald rfl rfl rfl h34 ?_
          refine go_n 2 (f := (138, [some (.ref 0), some (.int x1), some (.int x2), some (.int x3), some (.int x4), some (.int x5), some (.int x6), some (.int x7), some (.int x8), none], [.int x3, .int x2, .int (gi σ 25 x8.toNatClampNeg)], σ)) rfl ?_
          obtain ⟨q35, h36, hf⟩ := bnd hf
          refine go_c (mid := 5122) (args := [.int (gi σ 25 x8.toNatClampNeg), .int x2, .int x3]) (pc := 141) (L := [some (.ref 0), some (.int x1), some (.int x2), some (.int x3), some (.int x4), some (.int x5), some (.int x6), some (.int x7), some (.int x8), none]) (st := []) (σ := σ) rfl ((fX0_in_ok _ _ _ _ q35 h36).deep (Nat.le_of_ble_eq_true rfl)) ?_
          by_cases h37 : q35 ≠ 0
          · rw [if_pos h37] at hf
            refine go_it (t := 147) (f := 144) (L1 := [some (.ref 0), some (.int x1), some (.int x2), some (.int x3), some (.int x4), some (.int x5), some (.int x6), some (.int x7), some (.int x8), none]) (st1 := []) (σ1 := σ) rfl h37 ?_
            refine go_n 5 (f := (155, [some (.ref 0), some (.int x1), some (.int x2), some (.int x3), some (.int x4), some (.int x5), some (.int x6), some (.int x7), some (.int x8), none], [.int x8, .ref 25, .int x1, .ref 0], σ)) rfl ?_
            obtain ⟨h38, hf⟩ := grd hf
            refine go_iald rfl rfl rfl h38 ?_
            refine go_n 3 (f := (160, [some (.ref 0), some (.int x1), some (.int x2), some (.int x3), some (.int x4), some (.int x5), some (.int x6), some (.int x7), some (.int x8), none], [.int 0, .int x1, .int x4, .int (gi σ 25 x8.toNatClampNeg), .int x1, .ref 0], σ)) rfl ?_
            obtain ⟨q39, h40, hf⟩ := bnd hf
            refine go_c (mid := 5183) (args := [.ref 0, .int x1, .int (gi σ 25 x8.toNatClampNeg), .int x4, .int x1, .int 0]) (pc := 163) (L := [some (.ref 0), some (.int x1), some (.int x2), some (.int x3), some (.int x4), some (.int x5), some (.int x6), some (.int x7), some (.int x8), none]) (st := []) (σ := σ) rfl ((fX0_joins_ok _ _ _ _ _ _ q39 h40).deep (Nat.le_of_ble_eq_true rfl)) ?_
            refine go_n 4 (f := (172, [some (.ref 0), some (.int x1), some (.int x2), some (.int x3), some (.int x4), some (.int x5), some (.int x6), some (.int x7), some (.int x8), none], [.int x8, .ref 41], q39)) rfl ?_
            obtain ⟨h41, hf⟩ := grd hf
            refine go_iald rfl rfl rfl h41 ?_
            refine go_n 4 (f := (182, [some (.ref 0), some (.int x1), some (.int x2), some (.int x3), some (.int x4), some (.int x5), some (.int x6), some (.int x7), some (.int x8), none], [.int x8, .ref 42, .int (gi q39 41 x8.toNatClampNeg)], q39)) rfl ?_
            obtain ⟨h42, hf⟩ := grd hf
            refine go_iald rfl rfl rfl h42 ?_
            refine go_n 2 (f := (185, [some (.ref 0), some (.int x1), some (.int x2), some (.int x3), some (.int x4), some (.int x5), some (.int x6), some (.int x7), some (.int x8), none], [.int 2, .int ((gi q39 41 x8.toNatClampNeg) + (gi q39 42 x8.toNatClampNeg))], q39)) rfl ?_
            obtain ⟨q43, h44, hf⟩ := bnd hf
            refine go_c (mid := 3590) (args := [.int ((gi q39 41 x8.toNatClampNeg) + (gi q39 42 x8.toNatClampNeg)), .int 2]) (pc := 188) (L := [some (.ref 0), some (.int x1), some (.int x2), some (.int x3), some (.int x4), some (.int x5), some (.int x6), some (.int x7), some (.int x8), none]) (st := []) (σ := q39) rfl ((fJ5_floorDiv_2_ok _ _ _ q43 h44).deep (Nat.le_of_ble_eq_true rfl)) ?_
            refine go_n 2 (f := (193, [some (.ref 0), some (.int x1), some (.int x2), some (.int x3), some (.int x4), some (.int x5), some (.int (x6 + 1)), some (.int x7), some (.int x8), some (.int q43)], [], q39)) rfl ?_
            refine go_n 6 (f := (205, [some (.ref 0), some (.int x1), some (.int x2), some (.int x3), some (.int x4), some (.int x5), some (.int (x6 + 1)), some (.int x7), some (.int x8), some (.int q43)], [.int (gi q39 0 23), .int (gi q39 0 22), .int q43, .int x7], q39)) rfl ?_
            obtain ⟨q45, h46, hf⟩ := bnd hf
            refine go_c (mid := 5122) (args := [.int q43, .int (gi q39 0 22), .int (gi q39 0 23)]) (pc := 208) (L := [some (.ref 0), some (.int x1), some (.int x2), some (.int x3), some (.int x4), some (.int x5), some (.int (x6 + 1)), some (.int x7), some (.int x8), some (.int q43)]) (st := [.int x7]) (σ := q39) rfl ((fX0_in_ok _ _ _ _ q45 h46).deep (Nat.le_of_ble_eq_true rfl)) ?_
            refine go_m (f := (216, [some (.ref 0), some (.int x1), some (.int x2), some (.int x3), some (.int x4), some (.int x5), some (.int (x6 + 1)), none, some (.int x8), none], [.int ((if q45 = 0 then 0 else 1) : Int32), .int x7], q39)) ?_ (fun hJ49 => ?_)
            · generalize hz48 : ((if q45 = 0 then 0 else 1) : Int32) = z48 at hf ⊢
              have oz48 : am_ok 3 z48 = true := hz48 ▸ (okb rfl rfl)
              try dsimp only at hf
              refine go_n 2 (f := (219, [some (.ref 0), some (.int x1), some (.int x2), some (.int x3), some (.int x4), some (.int x5), some (.int (x6 + 1)), some (.int (x7 + z48)), some (.int x8), none], [], q39)) rfl ?_
              exact fX0_left_J219_ok _ _ _ _ _ _ _ _ _ _ hrec72 _ hf
            · by_cases h47 : q45 = 0
              · refine go_it (t := 215) (f := 211) (L1 := [some (.ref 0), some (.int x1), some (.int x2), some (.int x3), some (.int x4), some (.int x5), some (.int (x6 + 1)), some (.int x7), some (.int x8), some (.int q43)]) (st1 := [.int x7]) (σ1 := q39) rfl h47 ?_
                refine go_n 1 (f := (216, [some (.ref 0), some (.int x1), some (.int x2), some (.int x3), some (.int x4), some (.int x5), some (.int (x6 + 1)), some (.int x7), some (.int x8), some (.int q43)], [.int 0, .int x7], q39)) rfl ?_
                refine go_e (L1 := [some (.ref 0), some (.int x1), some (.int x2), some (.int x3), some (.int x4), some (.int x5), some (.int (x6 + 1)), none, some (.int x8), none]) rfl rfl ?_
                simp only [if_pos h47] at hJ49
                first | exact hJ49 | (simp only [if_pos h47]; exact hJ49)
              · refine go_if (t := 215) (f := 211) (L1 := [some (.ref 0), some (.int x1), some (.int x2), some (.int x3), some (.int x4), some (.int x5), some (.int (x6 + 1)), some (.int x7), some (.int x8), some (.int q43)]) (st1 := [.int x7]) (σ1 := q39) rfl h47 ?_
                refine go_n 2 (f := (216, [some (.ref 0), some (.int x1), some (.int x2), some (.int x3), some (.int x4), some (.int x5), some (.int (x6 + 1)), some (.int x7), some (.int x8), some (.int q43)], [.int 1, .int x7], q39)) rfl ?_
                refine go_e (L1 := [some (.ref 0), some (.int x1), some (.int x2), some (.int x3), some (.int x4), some (.int x5), some (.int (x6 + 1)), none, some (.int x8), none]) rfl rfl ?_
                simp only [if_neg h47] at hJ49
                first | exact hJ49 | (simp only [if_neg h47]; exact hJ49)
          · rw [if_neg h37] at hf
            refine go_if (t := 147) (f := 144) (L1 := [some (.ref 0), some (.int x1), some (.int x2), some (.int x3), some (.int x4), some (.int x5), some (.int x6), some (.int x7), some (.int x8), none]) (st1 := []) (σ1 := σ) rfl h37 ?_
            refine go_n 1 (f := (219, [some (.ref 0), some (.int x1), some (.int x2), some (.int x3), some (.int x4), some (.int x5), some (.int x6), some (.int x7), some (.int x8), none], [], σ)) rfl ?_
            exact fX0_left_J219_ok _ _ _ _ _ _ _ _ _ _ hrec72 _ hf
def fX0_left (x1 : Int32) (x2 : Int32) (x3 : Int32) (x4 : Int32) (x5 : Int32) (σ : Sg) : Option (Int32 × Sg) :=
  (fX0_isPlace x1 σ).bind fun q1 => if q1 = 0 then some ((-1), σ) else (fX0_isDay x2).bind fun q4 => if q4 = 0 then some ((-1), σ) else (fX0_in x3 x2 109999).bind fun q7 => if q7 = 0 then some ((-1), σ) else if 399 < (x3 - x2) then some ((-1), σ) else (fX0_isDesk x4).bind fun q11 => if q11 = 0 then some ((-1), σ) else (fX0_in x5 0 1).bind fun q14 => if q14 ≠ 0 then (fX6_looks x4 σ).bind fun q17 => lp (fX0_left_L72 x1 x2 x3 x4 x5 ) N0 (0, 0, 0, q17) else some ((-1), σ)
set_option maxHeartbeats 1500000 in
theorem fX0_left_ok (x1 : Int32) (x2 : Int32) (x3 : Int32) (x4 : Int32) (x5 : Int32) (σ : Sg) (r : (Int32 × Sg)) (hf : fX0_left x1 x2 x3 x4 x5 σ = some r) : Cl true 3249 5187 [.ref 0, .int x1, .int x2, .int x3, .int x4, .int x5] σ (.inl (some (.int (r).1)), (r).2) := by
  refine ⟨iX0_left, rfl, Nat.le_of_ble_eq_true rfl, Nat.le_of_ble_eq_true rfl, ?_⟩
  show Go true 3249 iX0_left (0, [some (.ref 0), some (.int x1), some (.int x2), some (.int x3), some (.int x4), some (.int x5), none, none, none, none], [], σ) (.inl (some (.int (r).1)), (r).2)
  unfold fX0_left at hf
  refine go_n 2 (f := (2, [some (.ref 0), some (.int x1), some (.int x2), some (.int x3), some (.int x4), some (.int x5), none, none, none, none], [.int x1, .ref 0], σ)) rfl ?_
  obtain ⟨q1, h2, hf⟩ := bnd hf
  refine go_c (mid := 5139) (args := [.ref 0, .int x1]) (pc := 5) (L := [some (.ref 0), some (.int x1), some (.int x2), some (.int x3), some (.int x4), some (.int x5), none, none, none, none]) (st := []) (σ := σ) rfl ((fX0_isPlace_ok _ _ q1 h2).deep (Nat.le_of_ble_eq_true rfl)) ?_
  by_cases h3 : q1 = 0
  · rw [if_pos h3] at hf
    refine go_it (t := 52) (f := 8) (L1 := [some (.ref 0), some (.int x1), some (.int x2), some (.int x3), some (.int x4), some (.int x5), none, none, none, none]) (st1 := []) (σ1 := σ) rfl h3 ?_
    refine go_e (L1 := [none, none, none, none, none, none, none, none, none, none]) rfl rfl ?_
    refine go_n 1 (f := (53, [none, none, none, none, none, none, none, none, none, none], [.int (-1)], σ)) rfl ?_
    cases hf
    exact go_r rfl
  · rw [if_neg h3] at hf
    refine go_if (t := 52) (f := 8) (L1 := [some (.ref 0), some (.int x1), some (.int x2), some (.int x3), some (.int x4), some (.int x5), none, none, none, none]) (st1 := []) (σ1 := σ) rfl h3 ?_
    refine go_n 1 (f := (9, [some (.ref 0), some (.int x1), some (.int x2), some (.int x3), some (.int x4), some (.int x5), none, none, none, none], [.int x2], σ)) rfl ?_
    obtain ⟨q4, h5, hf⟩ := bnd hf
    refine go_c (mid := 5128) (args := [.int x2]) (pc := 12) (L := [some (.ref 0), some (.int x1), some (.int x2), some (.int x3), some (.int x4), some (.int x5), none, none, none, none]) (st := []) (σ := σ) rfl ((fX0_isDay_ok _ _ q4 h5).deep (Nat.le_of_ble_eq_true rfl)) ?_
    by_cases h6 : q4 = 0
    · rw [if_pos h6] at hf
      refine go_it (t := 52) (f := 15) (L1 := [some (.ref 0), some (.int x1), some (.int x2), some (.int x3), some (.int x4), some (.int x5), none, none, none, none]) (st1 := []) (σ1 := σ) rfl h6 ?_
      refine go_e (L1 := [none, none, none, none, none, none, none, none, none, none]) rfl rfl ?_
      refine go_n 1 (f := (53, [none, none, none, none, none, none, none, none, none, none], [.int (-1)], σ)) rfl ?_
      cases hf
      exact go_r rfl
    · rw [if_neg h6] at hf
      refine go_if (t := 52) (f := 15) (L1 := [some (.ref 0), some (.int x1), some (.int x2), some (.int x3), some (.int x4), some (.int x5), none, none, none, none]) (st1 := []) (σ1 := σ) rfl h6 ?_
      refine go_n 3 (f := (19, [some (.ref 0), some (.int x1), some (.int x2), some (.int x3), some (.int x4), some (.int x5), none, none, none, none], [.int 109999, .int x2, .int x3], σ)) rfl ?_
      obtain ⟨q7, h8, hf⟩ := bnd hf
      refine go_c (mid := 5122) (args := [.int x3, .int x2, .int 109999]) (pc := 22) (L := [some (.ref 0), some (.int x1), some (.int x2), some (.int x3), some (.int x4), some (.int x5), none, none, none, none]) (st := []) (σ := σ) rfl ((fX0_in_ok _ _ _ _ q7 h8).deep (Nat.le_of_ble_eq_true rfl)) ?_
      by_cases h9 : q7 = 0
      · rw [if_pos h9] at hf
        refine go_it (t := 52) (f := 25) (L1 := [some (.ref 0), some (.int x1), some (.int x2), some (.int x3), some (.int x4), some (.int x5), none, none, none, none]) (st1 := []) (σ1 := σ) rfl h9 ?_
        refine go_e (L1 := [none, none, none, none, none, none, none, none, none, none]) rfl rfl ?_
        refine go_n 1 (f := (53, [none, none, none, none, none, none, none, none, none, none], [.int (-1)], σ)) rfl ?_
        cases hf
        exact go_r rfl
      · rw [if_neg h9] at hf
        refine go_if (t := 52) (f := 25) (L1 := [some (.ref 0), some (.int x1), some (.int x2), some (.int x3), some (.int x4), some (.int x5), none, none, none, none]) (st1 := []) (σ1 := σ) rfl h9 ?_
        refine go_n 4 (f := (31, [some (.ref 0), some (.int x1), some (.int x2), some (.int x3), some (.int x4), some (.int x5), none, none, none, none], [.int 399, .int (x3 - x2)], σ)) rfl ?_
        by_cases h10 : 399 < (x3 - x2)
        · rw [if_pos h10] at hf
          refine go_it (t := 52) (f := 34) (L1 := [some (.ref 0), some (.int x1), some (.int x2), some (.int x3), some (.int x4), some (.int x5), none, none, none, none]) (st1 := []) (σ1 := σ) rfl h10 ?_
          refine go_e (L1 := [none, none, none, none, none, none, none, none, none, none]) rfl rfl ?_
          refine go_n 1 (f := (53, [none, none, none, none, none, none, none, none, none, none], [.int (-1)], σ)) rfl ?_
          cases hf
          exact go_r rfl
        · rw [if_neg h10] at hf
          refine go_if (t := 52) (f := 34) (L1 := [some (.ref 0), some (.int x1), some (.int x2), some (.int x3), some (.int x4), some (.int x5), none, none, none, none]) (st1 := []) (σ1 := σ) rfl h10 ?_
          refine go_n 1 (f := (36, [some (.ref 0), some (.int x1), some (.int x2), some (.int x3), some (.int x4), some (.int x5), none, none, none, none], [.int x4], σ)) rfl ?_
          obtain ⟨q11, h12, hf⟩ := bnd hf
          refine go_c (mid := 5147) (args := [.int x4]) (pc := 39) (L := [some (.ref 0), some (.int x1), some (.int x2), some (.int x3), some (.int x4), some (.int x5), none, none, none, none]) (st := []) (σ := σ) rfl ((fX0_isDesk_ok _ _ q11 h12).deep (Nat.le_of_ble_eq_true rfl)) ?_
          by_cases h13 : q11 = 0
          · rw [if_pos h13] at hf
            refine go_it (t := 52) (f := 42) (L1 := [some (.ref 0), some (.int x1), some (.int x2), some (.int x3), some (.int x4), some (.int x5), none, none, none, none]) (st1 := []) (σ1 := σ) rfl h13 ?_
            refine go_e (L1 := [none, none, none, none, none, none, none, none, none, none]) rfl rfl ?_
            refine go_n 1 (f := (53, [none, none, none, none, none, none, none, none, none, none], [.int (-1)], σ)) rfl ?_
            cases hf
            exact go_r rfl
          · rw [if_neg h13] at hf
            refine go_if (t := 52) (f := 42) (L1 := [some (.ref 0), some (.int x1), some (.int x2), some (.int x3), some (.int x4), some (.int x5), none, none, none, none]) (st1 := []) (σ1 := σ) rfl h13 ?_
            refine go_n 3 (f := (46, [some (.ref 0), some (.int x1), some (.int x2), some (.int x3), some (.int x4), some (.int x5), none, none, none, none], [.int 1, .int 0, .int x5], σ)) rfl ?_
            obtain ⟨q14, h15, hf⟩ := bnd hf
            refine go_c (mid := 5122) (args := [.int x5, .int 0, .int 1]) (pc := 49) (L := [some (.ref 0), some (.int x1), some (.int x2), some (.int x3), some (.int x4), some (.int x5), none, none, none, none]) (st := []) (σ := σ) rfl ((fX0_in_ok _ _ _ _ q14 h15).deep (Nat.le_of_ble_eq_true rfl)) ?_
            by_cases h16 : q14 ≠ 0
            · rw [if_pos h16] at hf
              refine go_it (t := 54) (f := 52) (L1 := [some (.ref 0), some (.int x1), some (.int x2), some (.int x3), some (.int x4), some (.int x5), none, none, none, none]) (st1 := []) (σ1 := σ) rfl h16 ?_
              refine go_n 3 (f := (60, [some (.ref 0), some (.int x1), some (.int x2), some (.int x3), some (.int x4), some (.int x5), none, none, none, none], [.int x4, .ref 39], σ)) rfl ?_
              obtain ⟨q17, h18, hf⟩ := bnd hf
              refine go_c (mid := 11777) (args := [.ref 39, .int x4]) (pc := 63) (L := [some (.ref 0), some (.int x1), some (.int x2), some (.int x3), some (.int x4), some (.int x5), none, none, none, none]) (st := []) (σ := σ) rfl ((fX6_looks_ok _ _ q17 h18).deep (Nat.le_of_ble_eq_true rfl)) ?_
              refine go_n 4 (f := (69, [some (.ref 0), some (.int x1), some (.int x2), some (.int x3), some (.int x4), some (.int x5), some (.int 0), some (.int 0), none, none], [], q17)) rfl ?_
              refine go_n 2 (f := (72, [some (.ref 0), some (.int x1), some (.int x2), some (.int x3), some (.int x4), some (.int x5), some (.int 0), some (.int 0), some (.int 0), none], [], q17)) rfl ?_
              exact fX0_left_L72_ok _ _ _ _ _   N0 _ _ _ _ _ hf
            · rw [if_neg h16] at hf
              refine go_if (t := 54) (f := 52) (L1 := [some (.ref 0), some (.int x1), some (.int x2), some (.int x3), some (.int x4), some (.int x5), none, none, none, none]) (st1 := []) (σ1 := σ) rfl h16 ?_
              refine go_e (L1 := [none, none, none, none, none, none, none, none, none, none]) rfl rfl ?_
              refine go_n 1 (f := (53, [none, none, none, none, none, none, none, none, none, none], [.int (-1)], σ)) rfl ?_
              cases hf
              exact go_r rfl
/-! OldWeather.quarrels(I)V -/
def fX0_quarrels_J370 (x2 : Int32) (x3 : Int32) (rec232 : (Int32 × Sg) → Option Sg) (σ : Sg) : Option Sg :=
  rec232 ((x3 + 1), σ)
set_option maxHeartbeats 1500000 in
theorem fX0_quarrels_J370_ok (x2 : Int32) (x3 : Int32) (rec232 : (Int32 × Sg) → Option Sg) (σ : Sg) (hrec232 : ∀ (y3 : Int32) (τ : Sg) (r : Sg), rec232 (y3, τ) = some r → Go true 3248 iX0_quarrels (232, [some (.ref 0), none, some (.int x2), some (.int y3), none, none, none, none, none], [], τ) (.inl none, r)) (r : Sg) (hf : fX0_quarrels_J370 x2 x3 rec232 σ = some r) : Go true 3248 iX0_quarrels (370, [some (.ref 0), none, some (.int x2), some (.int x3), none, none, none, none, none], [], σ) (.inl none, r) := by
  unfold fX0_quarrels_J370 at hf
  refine go_n 2 (f := (232, [some (.ref 0), none, some (.int x2), some (.int (x3 + 1)), none, none, none, none, none], [], σ)) rfl ?_
  exact hrec232 _ _ _ hf
def fX0_quarrels_J364 (x2 : Int32) (x3 : Int32) (x4 : Int32) (x5 : Int32) (rec232 : (Int32 × Sg) → Option Sg) (rec256 : (Int32 × Sg) → Option Sg) (σ : Sg) : Option Sg :=
  rec256 ((x5 + 1), σ)
set_option maxHeartbeats 1500000 in
theorem fX0_quarrels_J364_ok (x2 : Int32) (x3 : Int32) (x4 : Int32) (x5 : Int32) (rec232 : (Int32 × Sg) → Option Sg) (rec256 : (Int32 × Sg) → Option Sg) (σ : Sg) (hrec232 : ∀ (y3 : Int32) (τ : Sg) (r : Sg), rec232 (y3, τ) = some r → Go true 3248 iX0_quarrels (232, [some (.ref 0), none, some (.int x2), some (.int y3), none, none, none, none, none], [], τ) (.inl none, r)) (hrec256 : ∀ (y5 : Int32) (τ : Sg) (r : Sg), rec256 (y5, τ) = some r → Go true 3248 iX0_quarrels (256, [some (.ref 0), none, some (.int x2), some (.int x3), some (.int x4), some (.int y5), none, none, none], [], τ) (.inl none, r)) (r : Sg) (hf : fX0_quarrels_J364 x2 x3 x4 x5 rec232 rec256 σ = some r) : Go true 3248 iX0_quarrels (364, [some (.ref 0), none, some (.int x2), some (.int x3), some (.int x4), some (.int x5), none, none, none], [], σ) (.inl none, r) := by
  unfold fX0_quarrels_J364 at hf
  refine go_n 2 (f := (256, [some (.ref 0), none, some (.int x2), some (.int x3), some (.int x4), some (.int (x5 + 1)), none, none, none], [], σ)) rfl ?_
  exact hrec256 _ _ _ hf
def fX0_quarrels_J352 (x2 : Int32) (x3 : Int32) (x4 : Int32) (x5 : Int32) (x6 : Int32) (x7 : Int32) (x8 : Int32) (rec232 : (Int32 × Sg) → Option Sg) (rec256 : (Int32 × Sg) → Option Sg) (rec299 : (Int32 × Sg) → Option Sg) (rec309 : (Int32 × Sg) → Option Sg) (σ : Sg) : Option Sg :=
  rec309 ((x8 + 1), σ)
set_option maxHeartbeats 1500000 in
theorem fX0_quarrels_J352_ok (x2 : Int32) (x3 : Int32) (x4 : Int32) (x5 : Int32) (x6 : Int32) (x7 : Int32) (x8 : Int32) (rec232 : (Int32 × Sg) → Option Sg) (rec256 : (Int32 × Sg) → Option Sg) (rec299 : (Int32 × Sg) → Option Sg) (rec309 : (Int32 × Sg) → Option Sg) (σ : Sg) (hrec232 : ∀ (y3 : Int32) (τ : Sg) (r : Sg), rec232 (y3, τ) = some r → Go true 3248 iX0_quarrels (232, [some (.ref 0), none, some (.int x2), some (.int y3), none, none, none, none, none], [], τ) (.inl none, r)) (hrec256 : ∀ (y5 : Int32) (τ : Sg) (r : Sg), rec256 (y5, τ) = some r → Go true 3248 iX0_quarrels (256, [some (.ref 0), none, some (.int x2), some (.int x3), some (.int x4), some (.int y5), none, none, none], [], τ) (.inl none, r)) (hrec299 : ∀ (y7 : Int32) (τ : Sg) (r : Sg), rec299 (y7, τ) = some r → Go true 3248 iX0_quarrels (299, [some (.ref 0), none, some (.int x2), some (.int x3), some (.int x4), some (.int x5), some (.int x6), some (.int y7), none], [], τ) (.inl none, r)) (hrec309 : ∀ (y8 : Int32) (τ : Sg) (r : Sg), rec309 (y8, τ) = some r → Go true 3248 iX0_quarrels (309, [some (.ref 0), none, some (.int x2), some (.int x3), some (.int x4), some (.int x5), some (.int x6), some (.int x7), some (.int y8)], [], τ) (.inl none, r)) (r : Sg) (hf : fX0_quarrels_J352 x2 x3 x4 x5 x6 x7 x8 rec232 rec256 rec299 rec309 σ = some r) : Go true 3248 iX0_quarrels (352, [some (.ref 0), none, some (.int x2), some (.int x3), some (.int x4), some (.int x5), some (.int x6), some (.int x7), some (.int x8)], [], σ) (.inl none, r) := by
  unfold fX0_quarrels_J352 at hf
  refine go_n 2 (f := (309, [some (.ref 0), none, some (.int x2), some (.int x3), some (.int x4), some (.int x5), some (.int x6), some (.int x7), some (.int (x8 + 1))], [], σ)) rfl ?_
  exact hrec309 _ _ _ hf
def fX0_quarrels_L309 (x2 : Int32) (x3 : Int32) (x4 : Int32) (x5 : Int32) (x6 : Int32) (x7 : Int32) (rec232 : (Int32 × Sg) → Option Sg) (rec256 : (Int32 × Sg) → Option Sg) (rec299 : (Int32 × Sg) → Option Sg) (rec309 : (Int32 × Sg) → Option Sg) (s : Int32 × Sg) : Option Sg :=
  match s with
  | (x8, σ) => ((fun (z21 : Int32) => if z21 ≤ x8 then rec299 ((x7 + 1), σ) else (fX0_quarrel x3 x7 x5 x8 σ).bind fun q23 => if q23 = 0 then fX0_quarrels_J352 x2 x3 x4 x5 x6 x7 x8 rec232 rec256 rec299 rec309 σ else (fX0_counts_2 x4 x7 x6 x8 σ).bind fun q26 => fX0_quarrels_J352 x2 x3 x4 x5 x6 x7 x8 rec232 rec256 rec299 rec309 q26) ((if x6 ≠ (-1) then 9 else 1) : Int32))
set_option maxHeartbeats 1500000 in
theorem fX0_quarrels_L309_ok (x2 : Int32) (x3 : Int32) (x4 : Int32) (x5 : Int32) (x6 : Int32) (x7 : Int32) (rec232 : (Int32 × Sg) → Option Sg) (rec256 : (Int32 × Sg) → Option Sg) (rec299 : (Int32 × Sg) → Option Sg) (hrec232 : ∀ (y3 : Int32) (τ : Sg) (r : Sg), rec232 (y3, τ) = some r → Go true 3248 iX0_quarrels (232, [some (.ref 0), none, some (.int x2), some (.int y3), none, none, none, none, none], [], τ) (.inl none, r)) (hrec256 : ∀ (y5 : Int32) (τ : Sg) (r : Sg), rec256 (y5, τ) = some r → Go true 3248 iX0_quarrels (256, [some (.ref 0), none, some (.int x2), some (.int x3), some (.int x4), some (.int y5), none, none, none], [], τ) (.inl none, r)) (hrec299 : ∀ (y7 : Int32) (τ : Sg) (r : Sg), rec299 (y7, τ) = some r → Go true 3248 iX0_quarrels (299, [some (.ref 0), none, some (.int x2), some (.int x3), some (.int x4), some (.int x5), some (.int x6), some (.int y7), none], [], τ) (.inl none, r)) : ∀ (n : Nat) (x8 : Int32) (σ : Sg) (r : Sg), lp (fX0_quarrels_L309 x2 x3 x4 x5 x6 x7 rec232 rec256 rec299) n (x8, σ) = some r → Go true 3248 iX0_quarrels (309, [some (.ref 0), none, some (.int x2), some (.int x3), some (.int x4), some (.int x5), some (.int x6), some (.int x7), some (.int x8)], [], σ) (.inl none, r) := by
  intro n
  induction n with
  | zero => intro x8 σ r hf; cases hf
  | succ n ih =>
    intro x8 σ r hf
    have hf : fX0_quarrels_L309 x2 x3 x4 x5 x6 x7 rec232 rec256 rec299 (lp (fX0_quarrels_L309 x2 x3 x4 x5 x6 x7 rec232 rec256 rec299) n) (x8, σ) = some r := hf
    have hrec309 := ih
    generalize lp (fX0_quarrels_L309 x2 x3 x4 x5 x6 x7 rec232 rec256 rec299) n = rec309 at hf hrec309
    unfold fX0_quarrels_L309 at hf
    dsimp only at hf
    refine go_n 3 (f := (314, [some (.ref 0), none, some (.int x2), some (.int x3), some (.int x4), some (.int x5), some (.int x6), some (.int x7), some (.int x8)], [.int (-1), .int x6, .int x8], σ)) rfl ?_
    refine go_m (f := (323, [some (.ref 0), none, some (.int x2), some (.int x3), some (.int x4), some (.int x5), some (.int x6), some (.int x7), some (.int x8)], [.int ((if x6 ≠ (-1) then 9 else 1) : Int32), .int x8], σ)) ?_ (fun hJ28 => ?_)
    · generalize hz21 : ((if x6 ≠ (-1) then 9 else 1) : Int32) = z21 at hf ⊢
      try dsimp only at hf
      by_cases h22 : z21 ≤ x8
      · rw [if_pos h22] at hf
        refine go_it (t := 358) (f := 326) (L1 := [some (.ref 0), none, some (.int x2), some (.int x3), some (.int x4), some (.int x5), some (.int x6), some (.int x7), some (.int x8)]) (st1 := []) (σ1 := σ) rfl h22 ?_
        refine go_n 2 (f := (299, [some (.ref 0), none, some (.int x2), some (.int x3), some (.int x4), some (.int x5), some (.int x6), some (.int (x7 + 1)), some (.int x8)], [], σ)) rfl ?_
        refine go_e (L1 := [some (.ref 0), none, some (.int x2), some (.int x3), some (.int x4), some (.int x5), some (.int x6), some (.int (x7 + 1)), none]) rfl rfl ?_
        exact hrec299 _ _ _ hf
      · rw [if_neg h22] at hf
        refine go_if (t := 358) (f := 326) (L1 := [some (.ref 0), none, some (.int x2), some (.int x3), some (.int x4), some (.int x5), some (.int x6), some (.int x7), some (.int x8)]) (st1 := []) (σ1 := σ) rfl h22 ?_
        refine go_n 5 (f := (334, [some (.ref 0), none, some (.int x2), some (.int x3), some (.int x4), some (.int x5), some (.int x6), some (.int x7), some (.int x8)], [.int x8, .int x5, .int x7, .int x3, .ref 0], σ)) rfl ?_
        obtain ⟨q23, h24, hf⟩ := bnd hf
        refine go_c (mid := 5194) (args := [.ref 0, .int x3, .int x7, .int x5, .int x8]) (pc := 337) (L := [some (.ref 0), none, some (.int x2), some (.int x3), some (.int x4), some (.int x5), some (.int x6), some (.int x7), some (.int x8)]) (st := []) (σ := σ) rfl ((fX0_quarrel_ok _ _ _ _ _ q23 h24).deep (Nat.le_of_ble_eq_true rfl)) ?_
        by_cases h25 : q23 = 0
        · rw [if_pos h25] at hf
          refine go_it (t := 352) (f := 340) (L1 := [some (.ref 0), none, some (.int x2), some (.int x3), some (.int x4), some (.int x5), some (.int x6), some (.int x7), some (.int x8)]) (st1 := []) (σ1 := σ) rfl h25 ?_
          exact fX0_quarrels_J352_ok _ _ _ _ _ _ _ _ _ _ _ _ hrec232 hrec256 hrec299 hrec309 _ hf
        · rw [if_neg h25] at hf
          refine go_if (t := 352) (f := 340) (L1 := [some (.ref 0), none, some (.int x2), some (.int x3), some (.int x4), some (.int x5), some (.int x6), some (.int x7), some (.int x8)]) (st1 := []) (σ1 := σ) rfl h25 ?_
          refine go_n 5 (f := (349, [some (.ref 0), none, some (.int x2), some (.int x3), some (.int x4), some (.int x5), some (.int x6), some (.int x7), some (.int x8)], [.int x8, .int x6, .int x7, .int x4, .ref 0], σ)) rfl ?_
          obtain ⟨q26, h27, hf⟩ := bnd hf
          refine go_c (mid := 5195) (args := [.ref 0, .int x4, .int x7, .int x6, .int x8]) (pc := 352) (L := [some (.ref 0), none, some (.int x2), some (.int x3), some (.int x4), some (.int x5), some (.int x6), some (.int x7), some (.int x8)]) (st := []) (σ := σ) rfl ((fX0_counts_2_ok _ _ _ _ _ q26 h27).deep (Nat.le_of_ble_eq_true rfl)) ?_
          exact fX0_quarrels_J352_ok _ _ _ _ _ _ _ _ _ _ _ _ hrec232 hrec256 hrec299 hrec309 _ hf
    · by_cases h20 : x6 ≠ (-1)
      · refine go_it (t := 321) (f := 317) (L1 := [some (.ref 0), none, some (.int x2), some (.int x3), some (.int x4), some (.int x5), some (.int x6), some (.int x7), some (.int x8)]) (st1 := [.int x8]) (σ1 := σ) rfl h20 ?_
        refine go_n 1 (f := (323, [some (.ref 0), none, some (.int x2), some (.int x3), some (.int x4), some (.int x5), some (.int x6), some (.int x7), some (.int x8)], [.int 9, .int x8], σ)) rfl ?_
        refine go_e (L1 := [some (.ref 0), none, some (.int x2), some (.int x3), some (.int x4), some (.int x5), some (.int x6), some (.int x7), some (.int x8)]) rfl rfl ?_
        simp only [if_pos h20] at hJ28
        first | exact hJ28 | (simp only [if_pos h20]; exact hJ28)
      · refine go_if (t := 321) (f := 317) (L1 := [some (.ref 0), none, some (.int x2), some (.int x3), some (.int x4), some (.int x5), some (.int x6), some (.int x7), some (.int x8)]) (st1 := [.int x8]) (σ1 := σ) rfl h20 ?_
        refine go_n 2 (f := (323, [some (.ref 0), none, some (.int x2), some (.int x3), some (.int x4), some (.int x5), some (.int x6), some (.int x7), some (.int x8)], [.int 1, .int x8], σ)) rfl ?_
        refine go_e (L1 := [some (.ref 0), none, some (.int x2), some (.int x3), some (.int x4), some (.int x5), some (.int x6), some (.int x7), some (.int x8)]) rfl rfl ?_
        simp only [if_neg h20] at hJ28
        first | exact hJ28 | (simp only [if_neg h20]; exact hJ28)
def fX0_quarrels_L299 (x2 : Int32) (x3 : Int32) (x4 : Int32) (x5 : Int32) (x6 : Int32) (rec232 : (Int32 × Sg) → Option Sg) (rec256 : (Int32 × Sg) → Option Sg) (rec299 : (Int32 × Sg) → Option Sg) (s : Int32 × Sg) : Option Sg :=
  match s with
  | (x7, σ) => if 9 ≤ x7 then fX0_quarrels_J364 x2 x3 x4 x5 rec232 rec256 σ else lp (fX0_quarrels_L309 x2 x3 x4 x5 x6 x7 rec232 rec256 rec299) N0 (0, σ)
set_option maxHeartbeats 1500000 in
theorem fX0_quarrels_L299_ok (x2 : Int32) (x3 : Int32) (x4 : Int32) (x5 : Int32) (x6 : Int32) (rec232 : (Int32 × Sg) → Option Sg) (rec256 : (Int32 × Sg) → Option Sg) (hrec232 : ∀ (y3 : Int32) (τ : Sg) (r : Sg), rec232 (y3, τ) = some r → Go true 3248 iX0_quarrels (232, [some (.ref 0), none, some (.int x2), some (.int y3), none, none, none, none, none], [], τ) (.inl none, r)) (hrec256 : ∀ (y5 : Int32) (τ : Sg) (r : Sg), rec256 (y5, τ) = some r → Go true 3248 iX0_quarrels (256, [some (.ref 0), none, some (.int x2), some (.int x3), some (.int x4), some (.int y5), none, none, none], [], τ) (.inl none, r)) : ∀ (n : Nat) (x7 : Int32) (σ : Sg) (r : Sg), lp (fX0_quarrels_L299 x2 x3 x4 x5 x6 rec232 rec256) n (x7, σ) = some r → Go true 3248 iX0_quarrels (299, [some (.ref 0), none, some (.int x2), some (.int x3), some (.int x4), some (.int x5), some (.int x6), some (.int x7), none], [], σ) (.inl none, r) := by
  intro n
  induction n with
  | zero => intro x7 σ r hf; cases hf
  | succ n ih =>
    intro x7 σ r hf
    have hf : fX0_quarrels_L299 x2 x3 x4 x5 x6 rec232 rec256 (lp (fX0_quarrels_L299 x2 x3 x4 x5 x6 rec232 rec256) n) (x7, σ) = some r := hf
    have hrec299 := ih
    generalize lp (fX0_quarrels_L299 x2 x3 x4 x5 x6 rec232 rec256) n = rec299 at hf hrec299
    unfold fX0_quarrels_L299 at hf
    dsimp only at hf
    refine go_n 2 (f := (303, [some (.ref 0), none, some (.int x2), some (.int x3), some (.int x4), some (.int x5), some (.int x6), some (.int x7), none], [.int 9, .int x7], σ)) rfl ?_
    by_cases h19 : 9 ≤ x7
    · rw [if_pos h19] at hf
      refine go_it (t := 364) (f := 306) (L1 := [some (.ref 0), none, some (.int x2), some (.int x3), some (.int x4), some (.int x5), some (.int x6), some (.int x7), none]) (st1 := []) (σ1 := σ) rfl h19 ?_
      refine go_e (L1 := [some (.ref 0), none, some (.int x2), some (.int x3), some (.int x4), some (.int x5), none, none, none]) rfl rfl ?_
      exact fX0_quarrels_J364_ok _ _ _ _ _ _ _ hrec232 hrec256 _ hf
    · rw [if_neg h19] at hf
      refine go_if (t := 364) (f := 306) (L1 := [some (.ref 0), none, some (.int x2), some (.int x3), some (.int x4), some (.int x5), some (.int x6), some (.int x7), none]) (st1 := []) (σ1 := σ) rfl h19 ?_
      refine go_n 2 (f := (309, [some (.ref 0), none, some (.int x2), some (.int x3), some (.int x4), some (.int x5), some (.int x6), some (.int x7), some (.int 0)], [], σ)) rfl ?_
      exact fX0_quarrels_L309_ok _ _ _ _ _ _ _ _ _ hrec232 hrec256 hrec299 N0 _ _ _ hf
def fX0_quarrels_J283 (x2 : Int32) (x3 : Int32) (x4 : Int32) (x5 : Int32) (x6 : Int32) (rec232 : (Int32 × Sg) → Option Sg) (rec256 : (Int32 × Sg) → Option Sg) (σ : Sg) : Option Sg :=
  (fX0_areLike x3 x5 σ).bind fun q16 => if q16 ≠ 0 then lp (fX0_quarrels_L299 x2 x3 x4 x5 x6 rec232 rec256) N0 (0, σ) else fX0_quarrels_J364 x2 x3 x4 x5 rec232 rec256 σ
set_option maxHeartbeats 1500000 in
theorem fX0_quarrels_J283_ok (x2 : Int32) (x3 : Int32) (x4 : Int32) (x5 : Int32) (x6 : Int32) (rec232 : (Int32 × Sg) → Option Sg) (rec256 : (Int32 × Sg) → Option Sg) (σ : Sg) (hrec232 : ∀ (y3 : Int32) (τ : Sg) (r : Sg), rec232 (y3, τ) = some r → Go true 3248 iX0_quarrels (232, [some (.ref 0), none, some (.int x2), some (.int y3), none, none, none, none, none], [], τ) (.inl none, r)) (hrec256 : ∀ (y5 : Int32) (τ : Sg) (r : Sg), rec256 (y5, τ) = some r → Go true 3248 iX0_quarrels (256, [some (.ref 0), none, some (.int x2), some (.int x3), some (.int x4), some (.int y5), none, none, none], [], τ) (.inl none, r)) (r : Sg) (hf : fX0_quarrels_J283 x2 x3 x4 x5 x6 rec232 rec256 σ = some r) : Go true 3248 iX0_quarrels (283, [some (.ref 0), none, some (.int x2), some (.int x3), some (.int x4), some (.int x5), some (.int x6), none, none], [], σ) (.inl none, r) := by
  unfold fX0_quarrels_J283 at hf
  refine go_n 3 (f := (287, [some (.ref 0), none, some (.int x2), some (.int x3), some (.int x4), some (.int x5), some (.int x6), none, none], [.int x5, .int x3, .ref 0], σ)) rfl ?_
  obtain ⟨q16, h17, hf⟩ := bnd hf
  refine go_c (mid := 5193) (args := [.ref 0, .int x3, .int x5]) (pc := 290) (L := [some (.ref 0), none, some (.int x2), some (.int x3), some (.int x4), some (.int x5), some (.int x6), none, none]) (st := []) (σ := σ) rfl ((fX0_areLike_ok _ _ _ q16 h17).deep (Nat.le_of_ble_eq_true rfl)) ?_
  by_cases h18 : q16 ≠ 0
  · rw [if_pos h18] at hf
    refine go_it (t := 296) (f := 293) (L1 := [some (.ref 0), none, some (.int x2), some (.int x3), some (.int x4), some (.int x5), some (.int x6), none, none]) (st1 := []) (σ1 := σ) rfl h18 ?_
    refine go_n 2 (f := (299, [some (.ref 0), none, some (.int x2), some (.int x3), some (.int x4), some (.int x5), some (.int x6), some (.int 0), none], [], σ)) rfl ?_
    exact fX0_quarrels_L299_ok _ _ _ _ _ _ _ hrec232 hrec256 N0 _ _ _ hf
  · rw [if_neg h18] at hf
    refine go_if (t := 296) (f := 293) (L1 := [some (.ref 0), none, some (.int x2), some (.int x3), some (.int x4), some (.int x5), some (.int x6), none, none]) (st1 := []) (σ1 := σ) rfl h18 ?_
    refine go_n 1 (f := (364, [some (.ref 0), none, some (.int x2), some (.int x3), some (.int x4), some (.int x5), some (.int x6), none, none], [], σ)) rfl ?_
    refine go_e (L1 := [some (.ref 0), none, some (.int x2), some (.int x3), some (.int x4), some (.int x5), none, none, none]) rfl rfl ?_
    exact fX0_quarrels_J364_ok _ _ _ _ _ _ _ hrec232 hrec256 _ hf
def fX0_quarrels_L256 (x2 : Int32) (x3 : Int32) (x4 : Int32) (rec232 : (Int32 × Sg) → Option Sg) (rec256 : (Int32 × Sg) → Option Sg) (s : Int32 × Sg) : Option Sg :=
  match s with
  | (x5, σ) => if x2 ≤ x5 then fX0_quarrels_J370 x2 x3 rec232 σ else (fX0_wishOf x5 σ).bind fun q13 => if q13 = (-1) then fX0_quarrels_J283 x2 x3 x4 x5 q13 rec232 rec256 σ else if q13 ≤ x4 then fX0_quarrels_J364 x2 x3 x4 x5 rec232 rec256 σ else fX0_quarrels_J283 x2 x3 x4 x5 q13 rec232 rec256 σ
set_option maxHeartbeats 1500000 in
theorem fX0_quarrels_L256_ok (x2 : Int32) (x3 : Int32) (x4 : Int32) (rec232 : (Int32 × Sg) → Option Sg) (hrec232 : ∀ (y3 : Int32) (τ : Sg) (r : Sg), rec232 (y3, τ) = some r → Go true 3248 iX0_quarrels (232, [some (.ref 0), none, some (.int x2), some (.int y3), none, none, none, none, none], [], τ) (.inl none, r)) : ∀ (n : Nat) (x5 : Int32) (σ : Sg) (r : Sg), lp (fX0_quarrels_L256 x2 x3 x4 rec232) n (x5, σ) = some r → Go true 3248 iX0_quarrels (256, [some (.ref 0), none, some (.int x2), some (.int x3), some (.int x4), some (.int x5), none, none, none], [], σ) (.inl none, r) := by
  intro n
  induction n with
  | zero => intro x5 σ r hf; cases hf
  | succ n ih =>
    intro x5 σ r hf
    have hf : fX0_quarrels_L256 x2 x3 x4 rec232 (lp (fX0_quarrels_L256 x2 x3 x4 rec232) n) (x5, σ) = some r := hf
    have hrec256 := ih
    generalize lp (fX0_quarrels_L256 x2 x3 x4 rec232) n = rec256 at hf hrec256
    unfold fX0_quarrels_L256 at hf
    dsimp only at hf
    refine go_n 2 (f := (259, [some (.ref 0), none, some (.int x2), some (.int x3), some (.int x4), some (.int x5), none, none, none], [.int x2, .int x5], σ)) rfl ?_
    by_cases h12 : x2 ≤ x5
    · rw [if_pos h12] at hf
      refine go_it (t := 370) (f := 262) (L1 := [some (.ref 0), none, some (.int x2), some (.int x3), some (.int x4), some (.int x5), none, none, none]) (st1 := []) (σ1 := σ) rfl h12 ?_
      refine go_e (L1 := [some (.ref 0), none, some (.int x2), some (.int x3), none, none, none, none, none]) rfl rfl ?_
      exact fX0_quarrels_J370_ok _ _ _ _ hrec232 _ hf
    · rw [if_neg h12] at hf
      refine go_if (t := 370) (f := 262) (L1 := [some (.ref 0), none, some (.int x2), some (.int x3), some (.int x4), some (.int x5), none, none, none]) (st1 := []) (σ1 := σ) rfl h12 ?_
      refine go_n 2 (f := (265, [some (.ref 0), none, some (.int x2), some (.int x3), some (.int x4), some (.int x5), none, none, none], [.int x5, .ref 0], σ)) rfl ?_
      obtain ⟨q13, h14, hf⟩ := bnd hf
      refine go_c (mid := 5192) (args := [.ref 0, .int x5]) (pc := 268) (L := [some (.ref 0), none, some (.int x2), some (.int x3), some (.int x4), some (.int x5), none, none, none]) (st := []) (σ := σ) rfl ((fX0_wishOf_ok _ _ q13 h14).deep (Nat.le_of_ble_eq_true rfl)) ?_
      refine go_n 3 (f := (273, [some (.ref 0), none, some (.int x2), some (.int x3), some (.int x4), some (.int x5), some (.int q13), none, none], [.int (-1), .int q13], σ)) rfl ?_
      by_cases h15 : q13 = (-1)
      · rw [if_pos h15] at hf
        refine go_it (t := 283) (f := 276) (L1 := [some (.ref 0), none, some (.int x2), some (.int x3), some (.int x4), some (.int x5), some (.int q13), none, none]) (st1 := []) (σ1 := σ) rfl h15 ?_
        exact fX0_quarrels_J283_ok _ _ _ _ _ _ _ _ hrec232 hrec256 _ hf
      · rw [if_neg h15] at hf
        refine go_if (t := 283) (f := 276) (L1 := [some (.ref 0), none, some (.int x2), some (.int x3), some (.int x4), some (.int x5), some (.int q13), none, none]) (st1 := []) (σ1 := σ) rfl h15 ?_
        refine go_n 2 (f := (280, [some (.ref 0), none, some (.int x2), some (.int x3), some (.int x4), some (.int x5), some (.int q13), none, none], [.int x4, .int q13], σ)) rfl ?_
        by_cases h29 : q13 ≤ x4
        · rw [if_pos h29] at hf
          refine go_it (t := 364) (f := 283) (L1 := [some (.ref 0), none, some (.int x2), some (.int x3), some (.int x4), some (.int x5), some (.int q13), none, none]) (st1 := []) (σ1 := σ) rfl h29 ?_
          refine go_e (L1 := [some (.ref 0), none, some (.int x2), some (.int x3), some (.int x4), some (.int x5), none, none, none]) rfl rfl ?_
          exact fX0_quarrels_J364_ok _ _ _ _ _ _ _ hrec232 hrec256 _ hf
        · rw [if_neg h29] at hf
          refine go_if (t := 364) (f := 283) (L1 := [some (.ref 0), none, some (.int x2), some (.int x3), some (.int x4), some (.int x5), some (.int q13), none, none]) (st1 := []) (σ1 := σ) rfl h29 ?_
          exact fX0_quarrels_J283_ok _ _ _ _ _ _ _ _ hrec232 hrec256 _ hf
def fX0_quarrels_L232 (x2 : Int32)  (rec232 : (Int32 × Sg) → Option Sg) (s : Int32 × Sg) : Option Sg :=
  match s with
  | (x3, σ) => if x2 ≤ x3 then some σ else (fX0_wishOf x3 σ).bind fun q9 => if q9 ≠ (-1) then lp (fX0_quarrels_L256 x2 x3 q9 rec232) N0 (0, σ) else fX0_quarrels_J370 x2 x3 rec232 σ
set_option maxHeartbeats 1500000 in
theorem fX0_quarrels_L232_ok (x2 : Int32)   : ∀ (n : Nat) (x3 : Int32) (σ : Sg) (r : Sg), lp (fX0_quarrels_L232 x2 ) n (x3, σ) = some r → Go true 3248 iX0_quarrels (232, [some (.ref 0), none, some (.int x2), some (.int x3), none, none, none, none, none], [], σ) (.inl none, r) := by
  intro n
  induction n with
  | zero => intro x3 σ r hf; cases hf
  | succ n ih =>
    intro x3 σ r hf
    have hf : fX0_quarrels_L232 x2  (lp (fX0_quarrels_L232 x2 ) n) (x3, σ) = some r := hf
    have hrec232 := ih
    generalize lp (fX0_quarrels_L232 x2 ) n = rec232 at hf hrec232
    unfold fX0_quarrels_L232 at hf
    dsimp only at hf
    refine go_n 2 (f := (234, [some (.ref 0), none, some (.int x2), some (.int x3), none, none, none, none, none], [.int x2, .int x3], σ)) rfl ?_
    by_cases h8 : x2 ≤ x3
    · rw [if_pos h8] at hf
      refine go_it (t := 376) (f := 237) (L1 := [some (.ref 0), none, some (.int x2), some (.int x3), none, none, none, none, none]) (st1 := []) (σ1 := σ) rfl h8 ?_
      cases hf
      exact go_r rfl
    · rw [if_neg h8] at hf
      refine go_if (t := 376) (f := 237) (L1 := [some (.ref 0), none, some (.int x2), some (.int x3), none, none, none, none, none]) (st1 := []) (σ1 := σ) rfl h8 ?_
      refine go_n 2 (f := (239, [some (.ref 0), none, some (.int x2), some (.int x3), none, none, none, none, none], [.int x3, .ref 0], σ)) rfl ?_
      obtain ⟨q9, h10, hf⟩ := bnd hf
      refine go_c (mid := 5192) (args := [.ref 0, .int x3]) (pc := 242) (L := [some (.ref 0), none, some (.int x2), some (.int x3), none, none, none, none, none]) (st := []) (σ := σ) rfl ((fX0_wishOf_ok _ _ q9 h10).deep (Nat.le_of_ble_eq_true rfl)) ?_
      refine go_n 3 (f := (247, [some (.ref 0), none, some (.int x2), some (.int x3), some (.int q9), none, none, none, none], [.int (-1), .int q9], σ)) rfl ?_
      by_cases h11 : q9 ≠ (-1)
      · rw [if_pos h11] at hf
        refine go_it (t := 253) (f := 250) (L1 := [some (.ref 0), none, some (.int x2), some (.int x3), some (.int q9), none, none, none, none]) (st1 := []) (σ1 := σ) rfl h11 ?_
        refine go_n 2 (f := (256, [some (.ref 0), none, some (.int x2), some (.int x3), some (.int q9), some (.int 0), none, none, none], [], σ)) rfl ?_
        exact fX0_quarrels_L256_ok _ _ _ _ hrec232 N0 _ _ _ hf
      · rw [if_neg h11] at hf
        refine go_if (t := 253) (f := 250) (L1 := [some (.ref 0), none, some (.int x2), some (.int x3), some (.int q9), none, none, none, none]) (st1 := []) (σ1 := σ) rfl h11 ?_
        refine go_n 1 (f := (370, [some (.ref 0), none, some (.int x2), some (.int x3), some (.int q9), none, none, none, none], [], σ)) rfl ?_
        refine go_e (L1 := [some (.ref 0), none, some (.int x2), some (.int x3), none, none, none, none, none]) rfl rfl ?_
        exact fX0_quarrels_J370_ok _ _ _ _ hrec232 _ hf
def fX0_quarrels_L208 (x2 : Int32)  (rec208 : (Int32 × Sg) → Option Sg) (s : Int32 × Sg) : Option Sg :=
  match s with
  | (x3, σ) => if 2025 ≤ x3 then lp (fX0_quarrels_L232 x2 ) N0 (0, σ) else if inb x3 2025 then rec208 ((x3 + 1), (wi σ 55 x3.toNatClampNeg 0)) else none
set_option maxHeartbeats 1500000 in
theorem fX0_quarrels_L208_ok (x2 : Int32)   : ∀ (n : Nat) (x3 : Int32) (σ : Sg) (r : Sg), lp (fX0_quarrels_L208 x2 ) n (x3, σ) = some r → Go true 3248 iX0_quarrels (208, [some (.ref 0), none, some (.int x2), some (.int x3), none, none, none, none, none], [], σ) (.inl none, r) := by
  intro n
  induction n with
  | zero => intro x3 σ r hf; cases hf
  | succ n ih =>
    intro x3 σ r hf
    have hf : fX0_quarrels_L208 x2  (lp (fX0_quarrels_L208 x2 ) n) (x3, σ) = some r := hf
    have hrec208 := ih
    generalize lp (fX0_quarrels_L208 x2 ) n = rec208 at hf hrec208
    unfold fX0_quarrels_L208 at hf
    dsimp only at hf
    refine go_n 4 (f := (214, [some (.ref 0), none, some (.int x2), some (.int x3), none, none, none, none, none], [.int 2025, .int x3], σ)) rfl ?_
    by_cases h7 : 2025 ≤ x3
    · rw [if_pos h7] at hf
      refine go_it (t := 230) (f := 217) (L1 := [some (.ref 0), none, some (.int x2), some (.int x3), none, none, none, none, none]) (st1 := []) (σ1 := σ) rfl h7 ?_
      refine go_n 2 (f := (232, [some (.ref 0), none, some (.int x2), some (.int 0), none, none, none, none, none], [], σ)) rfl ?_
      exact fX0_quarrels_L232_ok _   N0 _ _ _ hf
    · rw [if_neg h7] at hf
      refine go_if (t := 230) (f := 217) (L1 := [some (.ref 0), none, some (.int x2), some (.int x3), none, none, none, none, none]) (st1 := []) (σ1 := σ) rfl h7 ?_
      refine go_n 4 (f := (223, [some (.ref 0), none, some (.int x2), some (.int x3), none, none, none, none, none], [.int 0, .int x3, .ref 55], σ)) rfl ?_
      obtain ⟨h30, hf⟩ := grd hf
      refine go_iast rfl rfl rfl h30 ?_
      refine go_n 2 (f := (208, [some (.ref 0), none, some (.int x2), some (.int (x3 + 1)), none, none, none, none, none], [], (wi σ 55 x3.toNatClampNeg 0))) rfl ?_
      exact hrec208 _ _ _ hf
def fX0_quarrels_L184 (x2 : Int32)  (rec184 : (Int32 × Sg) → Option Sg) (s : Int32 × Sg) : Option Sg :=
  match s with
  | (x3, σ) => if 45 ≤ x3 then lp (fX0_quarrels_L208 x2 ) N0 (0, σ) else if inb x3 45 then rec184 ((x3 + 1), (wi σ 54 x3.toNatClampNeg 0)) else none
set_option maxHeartbeats 1500000 in
theorem fX0_quarrels_L184_ok (x2 : Int32)   : ∀ (n : Nat) (x3 : Int32) (σ : Sg) (r : Sg), lp (fX0_quarrels_L184 x2 ) n (x3, σ) = some r → Go true 3248 iX0_quarrels (184, [some (.ref 0), none, some (.int x2), some (.int x3), none, none, none, none, none], [], σ) (.inl none, r) := by
  intro n
  induction n with
  | zero => intro x3 σ r hf; cases hf
  | succ n ih =>
    intro x3 σ r hf
    have hf : fX0_quarrels_L184 x2  (lp (fX0_quarrels_L184 x2 ) n) (x3, σ) = some r := hf
    have hrec184 := ih
    generalize lp (fX0_quarrels_L184 x2 ) n = rec184 at hf hrec184
    unfold fX0_quarrels_L184 at hf
    dsimp only at hf
    refine go_n 4 (f := (190, [some (.ref 0), none, some (.int x2), some (.int x3), none, none, none, none, none], [.int 45, .int x3], σ)) rfl ?_
    by_cases h6 : 45 ≤ x3
    · rw [if_pos h6] at hf
      refine go_it (t := 206) (f := 193) (L1 := [some (.ref 0), none, some (.int x2), some (.int x3), none, none, none, none, none]) (st1 := []) (σ1 := σ) rfl h6 ?_
      refine go_n 2 (f := (208, [some (.ref 0), none, some (.int x2), some (.int 0), none, none, none, none, none], [], σ)) rfl ?_
      exact fX0_quarrels_L208_ok _   N0 _ _ _ hf
    · rw [if_neg h6] at hf
      refine go_if (t := 206) (f := 193) (L1 := [some (.ref 0), none, some (.int x2), some (.int x3), none, none, none, none, none]) (st1 := []) (σ1 := σ) rfl h6 ?_
      refine go_n 4 (f := (199, [some (.ref 0), none, some (.int x2), some (.int x3), none, none, none, none, none], [.int 0, .int x3, .ref 54], σ)) rfl ?_
      obtain ⟨h31, hf⟩ := grd hf
      refine go_iast rfl rfl rfl h31 ?_
      refine go_n 2 (f := (184, [some (.ref 0), none, some (.int x2), some (.int (x3 + 1)), none, none, none, none, none], [], (wi σ 54 x3.toNatClampNeg 0))) rfl ?_
      exact hrec184 _ _ _ hf
def fX0_quarrels_J147 (x1 : Int32) (x2 : Int32) (x3 : Int32) (x4 : Int32) (x5 : Int32) (s0 : Int32) (s1 : Int32) (rec21 : (Int32 × Sg) → Option Sg) (rec29 : (Int32 × Sg) → Option Sg) (σ : Sg) : Option Sg :=
  if inb s1 1800 then if inb x5 1800 then if inb x5 1800 then rec29 ((x4 + 1), (wi (wi (wi σ 58 s1.toNatClampNeg (am_nr 4 s0)) 56 x5.toNatClampNeg (gi σ 0 14)) 57 x5.toNatClampNeg (gi σ 0 15))) else none else none else none
set_option maxHeartbeats 1500000 in
theorem fX0_quarrels_J147_ok (x1 : Int32) (x2 : Int32) (x3 : Int32) (x4 : Int32) (x5 : Int32) (s0 : Int32) (s1 : Int32) (rec21 : (Int32 × Sg) → Option Sg) (rec29 : (Int32 × Sg) → Option Sg) (σ : Sg) (hrec21 : ∀ (y3 : Int32) (τ : Sg) (r : Sg), rec21 (y3, τ) = some r → Go true 3248 iX0_quarrels (21, [some (.ref 0), some (.int x1), some (.int x2), some (.int y3), none, none, none, none, none], [], τ) (.inl none, r)) (hrec29 : ∀ (y4 : Int32) (τ : Sg) (r : Sg), rec29 (y4, τ) = some r → Go true 3248 iX0_quarrels (29, [some (.ref 0), some (.int x1), some (.int x2), some (.int x3), some (.int y4), none, none, none, none], [], τ) (.inl none, r)) (r : Sg) (hf : fX0_quarrels_J147 x1 x2 x3 x4 x5 s0 s1 rec21 rec29 σ = some r) : Go true 3248 iX0_quarrels (147, [some (.ref 0), some (.int x1), some (.int x2), some (.int x3), some (.int x4), some (.int x5), none, none, none], [.int s0, .int s1, .ref 58], σ) (.inl none, r) := by
  unfold fX0_quarrels_J147 at hf
  obtain ⟨h36, hf⟩ := grd hf
  refine go_bast rfl rfl (Or.inr rfl) h36 ?_
  refine go_n 5 (f := (158, [some (.ref 0), some (.int x1), some (.int x2), some (.int x3), some (.int x4), some (.int x5), none, none, none], [.int (gi σ 0 14), .int x5, .ref 56], (wi σ 58 s1.toNatClampNeg (am_nr 4 s0)))) rfl ?_
  obtain ⟨h37, hf⟩ := grd hf
  refine go_iast rfl rfl rfl h37 ?_
  refine go_n 5 (f := (169, [some (.ref 0), some (.int x1), some (.int x2), some (.int x3), some (.int x4), some (.int x5), none, none, none], [.int (gi σ 0 15), .int x5, .ref 57], (wi (wi σ 58 s1.toNatClampNeg (am_nr 4 s0)) 56 x5.toNatClampNeg (gi σ 0 14)))) rfl ?_
  obtain ⟨h38, hf⟩ := grd hf
  refine go_iast rfl rfl rfl h38 ?_
  refine go_n 2 (f := (29, [some (.ref 0), some (.int x1), some (.int x2), some (.int x3), some (.int (x4 + 1)), some (.int x5), none, none, none], [], (wi (wi (wi σ 58 s1.toNatClampNeg (am_nr 4 s0)) 56 x5.toNatClampNeg (gi σ 0 14)) 57 x5.toNatClampNeg (gi σ 0 15)))) rfl ?_
  refine go_e (L1 := [some (.ref 0), some (.int x1), some (.int x2), some (.int x3), some (.int (x4 + 1)), none, none, none, none]) rfl rfl ?_
  exact hrec29 _ _ _ hf
def fX0_quarrels_J146 (x1 : Int32) (x2 : Int32) (x3 : Int32) (x4 : Int32) (x5 : Int32) (s0 : Int32) (rec21 : (Int32 × Sg) → Option Sg) (rec29 : (Int32 × Sg) → Option Sg) (σ : Sg) : Option Sg :=
  fX0_quarrels_J147 x1 x2 x3 x4 x5 0 s0 rec21 rec29 σ
set_option maxHeartbeats 1500000 in
theorem fX0_quarrels_J146_ok (x1 : Int32) (x2 : Int32) (x3 : Int32) (x4 : Int32) (x5 : Int32) (s0 : Int32) (rec21 : (Int32 × Sg) → Option Sg) (rec29 : (Int32 × Sg) → Option Sg) (σ : Sg) (hrec21 : ∀ (y3 : Int32) (τ : Sg) (r : Sg), rec21 (y3, τ) = some r → Go true 3248 iX0_quarrels (21, [some (.ref 0), some (.int x1), some (.int x2), some (.int y3), none, none, none, none, none], [], τ) (.inl none, r)) (hrec29 : ∀ (y4 : Int32) (τ : Sg) (r : Sg), rec29 (y4, τ) = some r → Go true 3248 iX0_quarrels (29, [some (.ref 0), some (.int x1), some (.int x2), some (.int x3), some (.int y4), none, none, none, none], [], τ) (.inl none, r)) (r : Sg) (hf : fX0_quarrels_J146 x1 x2 x3 x4 x5 s0 rec21 rec29 σ = some r) : Go true 3248 iX0_quarrels (146, [some (.ref 0), some (.int x1), some (.int x2), some (.int x3), some (.int x4), some (.int x5), none, none, none], [.int s0, .ref 58], σ) (.inl none, r) := by
  unfold fX0_quarrels_J146 at hf
  refine go_n 1 (f := (147, [some (.ref 0), some (.int x1), some (.int x2), some (.int x3), some (.int x4), some (.int x5), none, none, none], [.int 0, .int s0, .ref 58], σ)) rfl ?_
  exact fX0_quarrels_J147_ok _ _ _ _ _ _ _ _ _ _ hrec21 hrec29 _ hf
def fX0_quarrels_J106 (x1 : Int32) (x2 : Int32) (x3 : Int32) (x4 : Int32) (x5 : Int32) (s0 : Int32) (rec21 : (Int32 × Sg) → Option Sg) (rec29 : (Int32 × Sg) → Option Sg) (σ : Sg) : Option Sg :=
  if s0 = 0 then fX0_quarrels_J146 x1 x2 x3 x4 x5 x5 rec21 rec29 σ else if inb x3 200 then if inb x4 9 then (fX0_bounds x3 ((gi σ 25 x3.toNatClampNeg) + (gi σ 49 x4.toNatClampNeg)) x1 σ).bind fun q41 => ((fun (z44 : Int32) => if inb x5 1800 then if inb x5 1800 then if inb x5 1800 then rec29 ((x4 + 1), (wi (wi (wi q41.2 58 x5.toNatClampNeg (am_nr 4 z44)) 56 x5.toNatClampNeg (gi q41.2 0 14)) 57 x5.toNatClampNeg (gi q41.2 0 15))) else none else none else none) ((if q41.1 = 0 then 0 else 1) : Int32)) else none else none
set_option maxHeartbeats 1500000 in
theorem fX0_quarrels_J106_ok (x1 : Int32) (x2 : Int32) (x3 : Int32) (x4 : Int32) (x5 : Int32) (s0 : Int32) (rec21 : (Int32 × Sg) → Option Sg) (rec29 : (Int32 × Sg) → Option Sg) (σ : Sg) (hrec21 : ∀ (y3 : Int32) (τ : Sg) (r : Sg), rec21 (y3, τ) = some r → Go true 3248 iX0_quarrels (21, [some (.ref 0), some (.int x1), some (.int x2), some (.int y3), none, none, none, none, none], [], τ) (.inl none, r)) (hrec29 : ∀ (y4 : Int32) (τ : Sg) (r : Sg), rec29 (y4, τ) = some r → Go true 3248 iX0_quarrels (29, [some (.ref 0), some (.int x1), some (.int x2), some (.int x3), some (.int y4), none, none, none, none], [], τ) (.inl none, r)) (r : Sg) (hf : fX0_quarrels_J106 x1 x2 x3 x4 x5 s0 rec21 rec29 σ = some r) : Go true 3248 iX0_quarrels (106, [some (.ref 0), some (.int x1), some (.int x2), some (.int x3), some (.int x4), some (.int x5), none, none, none], [.int s0], σ) (.inl none, r) := by
  unfold fX0_quarrels_J106 at hf
  refine go_n 5 (f := (116, [some (.ref 0), some (.int x1), some (.int x2), some (.int x3), some (.int x4), some (.int x5), some (.int s0), none, none], [.int s0, .int x5, .ref 58], σ)) rfl ?_
  by_cases h35 : s0 = 0
  · rw [if_pos h35] at hf
    refine go_it (t := 146) (f := 119) (L1 := [some (.ref 0), some (.int x1), some (.int x2), some (.int x3), some (.int x4), some (.int x5), some (.int s0), none, none]) (st1 := [.int x5, .ref 58]) (σ1 := σ) rfl h35 ?_
    refine go_e (L1 := [some (.ref 0), some (.int x1), some (.int x2), some (.int x3), some (.int x4), some (.int x5), none, none, none]) rfl rfl ?_
    exact fX0_quarrels_J146_ok _ _ _ _ _ _ _ _ _ hrec21 hrec29 _ hf
  · rw [if_neg h35] at hf
    refine go_if (t := 146) (f := 119) (L1 := [some (.ref 0), some (.int x1), some (.int x2), some (.int x3), some (.int x4), some (.int x5), some (.int s0), none, none]) (st1 := [.int x5, .ref 58]) (σ1 := σ) rfl h35 ?_
    refine go_n 5 (f := (126, [some (.ref 0), some (.int x1), some (.int x2), some (.int x3), some (.int x4), some (.int x5), some (.int s0), none, none], [.int x3, .ref 25, .int x3, .ref 0, .int x5, .ref 58], σ)) rfl ?_
    obtain ⟨h39, hf⟩ := grd hf
    refine go_iald rfl rfl rfl h39 ?_
    refine go_n 3 (f := (133, [some (.ref 0), some (.int x1), some (.int x2), some (.int x3), some (.int x4), some (.int x5), some (.int s0), none, none], [.int x4, .ref 49, .int (gi σ 25 x3.toNatClampNeg), .int x3, .ref 0, .int x5, .ref 58], σ)) rfl ?_
    obtain ⟨h40, hf⟩ := grd hf
    refine go_iald rfl rfl rfl h40 ?_
    refine go_n 2 (f := (136, [some (.ref 0), some (.int x1), some (.int x2), some (.int x3), some (.int x4), some (.int x5), some (.int s0), none, none], [.int x1, .int ((gi σ 25 x3.toNatClampNeg) + (gi σ 49 x4.toNatClampNeg)), .int x3, .ref 0, .int x5, .ref 58], σ)) rfl ?_
    obtain ⟨q41, h42, hf⟩ := bnd hf
    refine go_c (mid := 5175) (args := [.ref 0, .int x3, .int ((gi σ 25 x3.toNatClampNeg) + (gi σ 49 x4.toNatClampNeg)), .int x1]) (pc := 139) (L := [some (.ref 0), some (.int x1), some (.int x2), some (.int x3), some (.int x4), some (.int x5), some (.int s0), none, none]) (st := [.int x5, .ref 58]) (σ := σ) rfl ((fX0_bounds_ok _ _ _ _ q41 h42).deep (Nat.le_of_ble_eq_true rfl)) ?_
    refine go_m (f := (147, [some (.ref 0), some (.int x1), some (.int x2), some (.int x3), some (.int x4), some (.int x5), none, none, none], [.int ((if q41.1 = 0 then 0 else 1) : Int32), .int x5, .ref 58], q41.2)) ?_ (fun hJ48 => ?_)
    · generalize hz44 : ((if q41.1 = 0 then 0 else 1) : Int32) = z44 at hf ⊢
      have oz44 : am_ok 3 z44 = true := hz44 ▸ (okb rfl rfl)
      try dsimp only at hf
      obtain ⟨h45, hf⟩ := grd hf
      refine go_bast rfl rfl (Or.inr rfl) h45 ?_
      refine go_n 5 (f := (158, [some (.ref 0), some (.int x1), some (.int x2), some (.int x3), some (.int x4), some (.int x5), none, none, none], [.int (gi q41.2 0 14), .int x5, .ref 56], (wi q41.2 58 x5.toNatClampNeg (am_nr 4 z44)))) rfl ?_
      obtain ⟨h46, hf⟩ := grd hf
      refine go_iast rfl rfl rfl h46 ?_
      refine go_n 5 (f := (169, [some (.ref 0), some (.int x1), some (.int x2), some (.int x3), some (.int x4), some (.int x5), none, none, none], [.int (gi q41.2 0 15), .int x5, .ref 57], (wi (wi q41.2 58 x5.toNatClampNeg (am_nr 4 z44)) 56 x5.toNatClampNeg (gi q41.2 0 14)))) rfl ?_
      obtain ⟨h47, hf⟩ := grd hf
      refine go_iast rfl rfl rfl h47 ?_
      refine go_n 2 (f := (29, [some (.ref 0), some (.int x1), some (.int x2), some (.int x3), some (.int (x4 + 1)), some (.int x5), none, none, none], [], (wi (wi (wi q41.2 58 x5.toNatClampNeg (am_nr 4 z44)) 56 x5.toNatClampNeg (gi q41.2 0 14)) 57 x5.toNatClampNeg (gi q41.2 0 15)))) rfl ?_
      refine go_e (L1 := [some (.ref 0), some (.int x1), some (.int x2), some (.int x3), some (.int (x4 + 1)), none, none, none, none]) rfl rfl ?_
      exact hrec29 _ _ _ hf
    · by_cases h43 : q41.1 = 0
      · refine go_it (t := 146) (f := 142) (L1 := [some (.ref 0), some (.int x1), some (.int x2), some (.int x3), some (.int x4), some (.int x5), some (.int s0), none, none]) (st1 := [.int x5, .ref 58]) (σ1 := q41.2) rfl h43 ?_
        refine go_e (L1 := [some (.ref 0), some (.int x1), some (.int x2), some (.int x3), some (.int x4), some (.int x5), none, none, none]) rfl rfl ?_
        refine go_n 1 (f := (147, [some (.ref 0), some (.int x1), some (.int x2), some (.int x3), some (.int x4), some (.int x5), none, none, none], [.int 0, .int x5, .ref 58], q41.2)) rfl ?_
        refine go_e (L1 := [some (.ref 0), some (.int x1), some (.int x2), some (.int x3), some (.int x4), some (.int x5), none, none, none]) rfl rfl ?_
        simp only [if_pos h43] at hJ48
        first | exact hJ48 | (simp only [if_pos h43]; exact hJ48)
      · refine go_if (t := 146) (f := 142) (L1 := [some (.ref 0), some (.int x1), some (.int x2), some (.int x3), some (.int x4), some (.int x5), some (.int s0), none, none]) (st1 := [.int x5, .ref 58]) (σ1 := q41.2) rfl h43 ?_
        refine go_n 2 (f := (147, [some (.ref 0), some (.int x1), some (.int x2), some (.int x3), some (.int x4), some (.int x5), some (.int s0), none, none], [.int 1, .int x5, .ref 58], q41.2)) rfl ?_
        refine go_e (L1 := [some (.ref 0), some (.int x1), some (.int x2), some (.int x3), some (.int x4), some (.int x5), none, none, none]) rfl rfl ?_
        simp only [if_neg h43] at hJ48
        first | exact hJ48 | (simp only [if_neg h43]; exact hJ48)
def fX0_quarrels_J105 (x1 : Int32) (x2 : Int32) (x3 : Int32) (x4 : Int32) (x5 : Int32) (rec21 : (Int32 × Sg) → Option Sg) (rec29 : (Int32 × Sg) → Option Sg) (σ : Sg) : Option Sg :=
  fX0_quarrels_J106 x1 x2 x3 x4 x5 0 rec21 rec29 σ
set_option maxHeartbeats 1500000 in
theorem fX0_quarrels_J105_ok (x1 : Int32) (x2 : Int32) (x3 : Int32) (x4 : Int32) (x5 : Int32) (rec21 : (Int32 × Sg) → Option Sg) (rec29 : (Int32 × Sg) → Option Sg) (σ : Sg) (hrec21 : ∀ (y3 : Int32) (τ : Sg) (r : Sg), rec21 (y3, τ) = some r → Go true 3248 iX0_quarrels (21, [some (.ref 0), some (.int x1), some (.int x2), some (.int y3), none, none, none, none, none], [], τ) (.inl none, r)) (hrec29 : ∀ (y4 : Int32) (τ : Sg) (r : Sg), rec29 (y4, τ) = some r → Go true 3248 iX0_quarrels (29, [some (.ref 0), some (.int x1), some (.int x2), some (.int x3), some (.int y4), none, none, none, none], [], τ) (.inl none, r)) (r : Sg) (hf : fX0_quarrels_J105 x1 x2 x3 x4 x5 rec21 rec29 σ = some r) : Go true 3248 iX0_quarrels (105, [some (.ref 0), some (.int x1), some (.int x2), some (.int x3), some (.int x4), some (.int x5), none, none, none], [], σ) (.inl none, r) := by
  unfold fX0_quarrels_J105 at hf
  refine go_n 1 (f := (106, [some (.ref 0), some (.int x1), some (.int x2), some (.int x3), some (.int x4), some (.int x5), none, none, none], [.int 0], σ)) rfl ?_
  exact fX0_quarrels_J106_ok _ _ _ _ _ _ _ _ _ hrec21 hrec29 _ hf
def fX0_quarrels_J81 (x1 : Int32) (x2 : Int32) (x3 : Int32) (x4 : Int32) (x5 : Int32) (rec21 : (Int32 × Sg) → Option Sg) (rec29 : (Int32 × Sg) → Option Sg) (σ : Sg) : Option Sg :=
  if inb x3 200 then if inb x4 9 then (fX0_isDay ((gi σ 25 x3.toNatClampNeg) + (gi σ 49 x4.toNatClampNeg))).bind fun q54 => ((fun (z57 : Int32) => if z57 = 0 then fX0_quarrels_J146 x1 x2 x3 x4 x5 x5 rec21 rec29 σ else if inb x3 200 then if inb x4 9 then (fX0_bounds x3 ((gi σ 25 x3.toNatClampNeg) + (gi σ 49 x4.toNatClampNeg)) x1 σ).bind fun q61 => ((fun (z64 : Int32) => if inb x5 1800 then if inb x5 1800 then if inb x5 1800 then rec29 ((x4 + 1), (wi (wi (wi q61.2 58 x5.toNatClampNeg (am_nr 4 z64)) 56 x5.toNatClampNeg (gi q61.2 0 14)) 57 x5.toNatClampNeg (gi q61.2 0 15))) else none else none else none) ((if q61.1 = 0 then 0 else 1) : Int32)) else none else none) ((if q54 = 0 then 0 else 1) : Int32)) else none else none
set_option maxHeartbeats 1500000 in
theorem fX0_quarrels_J81_ok (x1 : Int32) (x2 : Int32) (x3 : Int32) (x4 : Int32) (x5 : Int32) (rec21 : (Int32 × Sg) → Option Sg) (rec29 : (Int32 × Sg) → Option Sg) (σ : Sg) (hrec21 : ∀ (y3 : Int32) (τ : Sg) (r : Sg), rec21 (y3, τ) = some r → Go true 3248 iX0_quarrels (21, [some (.ref 0), some (.int x1), some (.int x2), some (.int y3), none, none, none, none, none], [], τ) (.inl none, r)) (hrec29 : ∀ (y4 : Int32) (τ : Sg) (r : Sg), rec29 (y4, τ) = some r → Go true 3248 iX0_quarrels (29, [some (.ref 0), some (.int x1), some (.int x2), some (.int x3), some (.int y4), none, none, none, none], [], τ) (.inl none, r)) (r : Sg) (hf : fX0_quarrels_J81 x1 x2 x3 x4 x5 rec21 rec29 σ = some r) : Go true 3248 iX0_quarrels (81, [some (.ref 0), some (.int x1), some (.int x2), some (.int x3), some (.int x4), some (.int x5), none, none, none], [], σ) (.inl none, r) := by
  unfold fX0_quarrels_J81 at hf
  refine go_n 3 (f := (86, [some (.ref 0), some (.int x1), some (.int x2), some (.int x3), some (.int x4), some (.int x5), none, none, none], [.int x3, .ref 25], σ)) rfl ?_
  obtain ⟨h52, hf⟩ := grd hf
  refine go_iald rfl rfl rfl h52 ?_
  refine go_n 3 (f := (93, [some (.ref 0), some (.int x1), some (.int x2), some (.int x3), some (.int x4), some (.int x5), none, none, none], [.int x4, .ref 49, .int (gi σ 25 x3.toNatClampNeg)], σ)) rfl ?_
  obtain ⟨h53, hf⟩ := grd hf
  refine go_iald rfl rfl rfl h53 ?_
  refine go_n 1 (f := (95, [some (.ref 0), some (.int x1), some (.int x2), some (.int x3), some (.int x4), some (.int x5), none, none, none], [.int ((gi σ 25 x3.toNatClampNeg) + (gi σ 49 x4.toNatClampNeg))], σ)) rfl ?_
  obtain ⟨q54, h55, hf⟩ := bnd hf
  refine go_c (mid := 5128) (args := [.int ((gi σ 25 x3.toNatClampNeg) + (gi σ 49 x4.toNatClampNeg))]) (pc := 98) (L := [some (.ref 0), some (.int x1), some (.int x2), some (.int x3), some (.int x4), some (.int x5), none, none, none]) (st := []) (σ := σ) rfl ((fX0_isDay_ok _ _ q54 h55).deep (Nat.le_of_ble_eq_true rfl)) ?_
  refine go_m (f := (106, [some (.ref 0), some (.int x1), some (.int x2), some (.int x3), some (.int x4), some (.int x5), none, none, none], [.int ((if q54 = 0 then 0 else 1) : Int32)], σ)) ?_ (fun hJ69 => ?_)
  · generalize hz57 : ((if q54 = 0 then 0 else 1) : Int32) = z57 at hf ⊢
    have oz57 : am_ok 3 z57 = true := hz57 ▸ (okb rfl rfl)
    try dsimp only at hf
    refine go_n 5 (f := (116, [some (.ref 0), some (.int x1), some (.int x2), some (.int x3), some (.int x4), some (.int x5), some (.int z57), none, none], [.int z57, .int x5, .ref 58], σ)) rfl ?_
    by_cases h58 : z57 = 0
    · rw [if_pos h58] at hf
      refine go_it (t := 146) (f := 119) (L1 := [some (.ref 0), some (.int x1), some (.int x2), some (.int x3), some (.int x4), some (.int x5), some (.int z57), none, none]) (st1 := [.int x5, .ref 58]) (σ1 := σ) rfl h58 ?_
      refine go_e (L1 := [some (.ref 0), some (.int x1), some (.int x2), some (.int x3), some (.int x4), some (.int x5), none, none, none]) rfl rfl ?_
      exact fX0_quarrels_J146_ok _ _ _ _ _ _ _ _ _ hrec21 hrec29 _ hf
    · rw [if_neg h58] at hf
      refine go_if (t := 146) (f := 119) (L1 := [some (.ref 0), some (.int x1), some (.int x2), some (.int x3), some (.int x4), some (.int x5), some (.int z57), none, none]) (st1 := [.int x5, .ref 58]) (σ1 := σ) rfl h58 ?_
      refine go_n 5 (f := (126, [some (.ref 0), some (.int x1), some (.int x2), some (.int x3), some (.int x4), some (.int x5), some (.int z57), none, none], [.int x3, .ref 25, .int x3, .ref 0, .int x5, .ref 58], σ)) rfl ?_
      obtain ⟨h59, hf⟩ := grd hf
      refine go_iald rfl rfl rfl h59 ?_
      refine go_n 3 (f := (133, [some (.ref 0), some (.int x1), some (.int x2), some (.int x3), some (.int x4), some (.int x5), some (.int z57), none, none], [.int x4, .ref 49, .int (gi σ 25 x3.toNatClampNeg), .int x3, .ref 0, .int x5, .ref 58], σ)) rfl ?_
      obtain ⟨h60, hf⟩ := grd hf
      refine go_iald rfl rfl rfl h60 ?_
      refine go_n 2 (f := (136, [some (.ref 0), some (.int x1), some (.int x2), some (.int x3), some (.int x4), some (.int x5), some (.int z57), none, none], [.int x1, .int ((gi σ 25 x3.toNatClampNeg) + (gi σ 49 x4.toNatClampNeg)), .int x3, .ref 0, .int x5, .ref 58], σ)) rfl ?_
      obtain ⟨q61, h62, hf⟩ := bnd hf
      refine go_c (mid := 5175) (args := [.ref 0, .int x3, .int ((gi σ 25 x3.toNatClampNeg) + (gi σ 49 x4.toNatClampNeg)), .int x1]) (pc := 139) (L := [some (.ref 0), some (.int x1), some (.int x2), some (.int x3), some (.int x4), some (.int x5), some (.int z57), none, none]) (st := [.int x5, .ref 58]) (σ := σ) rfl ((fX0_bounds_ok _ _ _ _ q61 h62).deep (Nat.le_of_ble_eq_true rfl)) ?_
      refine go_m (f := (147, [some (.ref 0), some (.int x1), some (.int x2), some (.int x3), some (.int x4), some (.int x5), none, none, none], [.int ((if q61.1 = 0 then 0 else 1) : Int32), .int x5, .ref 58], q61.2)) ?_ (fun hJ68 => ?_)
      · generalize hz64 : ((if q61.1 = 0 then 0 else 1) : Int32) = z64 at hf ⊢
        have oz64 : am_ok 3 z64 = true := hz64 ▸ (okb rfl rfl)
        try dsimp only at hf
        obtain ⟨h65, hf⟩ := grd hf
        refine go_bast rfl rfl (Or.inr rfl) h65 ?_
        refine go_n 5 (f := (158, [some (.ref 0), some (.int x1), some (.int x2), some (.int x3), some (.int x4), some (.int x5), none, none, none], [.int (gi q61.2 0 14), .int x5, .ref 56], (wi q61.2 58 x5.toNatClampNeg (am_nr 4 z64)))) rfl ?_
        obtain ⟨h66, hf⟩ := grd hf
        refine go_iast rfl rfl rfl h66 ?_
        refine go_n 5 (f := (169, [some (.ref 0), some (.int x1), some (.int x2), some (.int x3), some (.int x4), some (.int x5), none, none, none], [.int (gi q61.2 0 15), .int x5, .ref 57], (wi (wi q61.2 58 x5.toNatClampNeg (am_nr 4 z64)) 56 x5.toNatClampNeg (gi q61.2 0 14)))) rfl ?_
        obtain ⟨h67, hf⟩ := grd hf
        refine go_iast rfl rfl rfl h67 ?_
        refine go_n 2 (f := (29, [some (.ref 0), some (.int x1), some (.int x2), some (.int x3), some (.int (x4 + 1)), some (.int x5), none, none, none], [], (wi (wi (wi q61.2 58 x5.toNatClampNeg (am_nr 4 z64)) 56 x5.toNatClampNeg (gi q61.2 0 14)) 57 x5.toNatClampNeg (gi q61.2 0 15)))) rfl ?_
        refine go_e (L1 := [some (.ref 0), some (.int x1), some (.int x2), some (.int x3), some (.int (x4 + 1)), none, none, none, none]) rfl rfl ?_
        exact hrec29 _ _ _ hf
      · by_cases h63 : q61.1 = 0
        · refine go_it (t := 146) (f := 142) (L1 := [some (.ref 0), some (.int x1), some (.int x2), some (.int x3), some (.int x4), some (.int x5), some (.int z57), none, none]) (st1 := [.int x5, .ref 58]) (σ1 := q61.2) rfl h63 ?_
          refine go_e (L1 := [some (.ref 0), some (.int x1), some (.int x2), some (.int x3), some (.int x4), some (.int x5), none, none, none]) rfl rfl ?_
          refine go_n 1 (f := (147, [some (.ref 0), some (.int x1), some (.int x2), some (.int x3), some (.int x4), some (.int x5), none, none, none], [.int 0, .int x5, .ref 58], q61.2)) rfl ?_
          refine go_e (L1 := [some (.ref 0), some (.int x1), some (.int x2), some (.int x3), some (.int x4), some (.int x5), none, none, none]) rfl rfl ?_
          simp only [if_pos h63] at hJ68
          first | exact hJ68 | (simp only [if_pos h63]; exact hJ68)
        · refine go_if (t := 146) (f := 142) (L1 := [some (.ref 0), some (.int x1), some (.int x2), some (.int x3), some (.int x4), some (.int x5), some (.int z57), none, none]) (st1 := [.int x5, .ref 58]) (σ1 := q61.2) rfl h63 ?_
          refine go_n 2 (f := (147, [some (.ref 0), some (.int x1), some (.int x2), some (.int x3), some (.int x4), some (.int x5), some (.int z57), none, none], [.int 1, .int x5, .ref 58], q61.2)) rfl ?_
          refine go_e (L1 := [some (.ref 0), some (.int x1), some (.int x2), some (.int x3), some (.int x4), some (.int x5), none, none, none]) rfl rfl ?_
          simp only [if_neg h63] at hJ68
          first | exact hJ68 | (simp only [if_neg h63]; exact hJ68)
  · by_cases h56 : q54 = 0
    · refine go_it (t := 105) (f := 101) (L1 := [some (.ref 0), some (.int x1), some (.int x2), some (.int x3), some (.int x4), some (.int x5), none, none, none]) (st1 := []) (σ1 := σ) rfl h56 ?_
      refine go_n 1 (f := (106, [some (.ref 0), some (.int x1), some (.int x2), some (.int x3), some (.int x4), some (.int x5), none, none, none], [.int 0], σ)) rfl ?_
      refine go_e (L1 := [some (.ref 0), some (.int x1), some (.int x2), some (.int x3), some (.int x4), some (.int x5), none, none, none]) rfl rfl ?_
      simp only [if_pos h56] at hJ69
      first | exact hJ69 | (simp only [if_pos h56]; exact hJ69)
    · refine go_if (t := 105) (f := 101) (L1 := [some (.ref 0), some (.int x1), some (.int x2), some (.int x3), some (.int x4), some (.int x5), none, none, none]) (st1 := []) (σ1 := σ) rfl h56 ?_
      refine go_n 2 (f := (106, [some (.ref 0), some (.int x1), some (.int x2), some (.int x3), some (.int x4), some (.int x5), none, none, none], [.int 1], σ)) rfl ?_
      refine go_e (L1 := [some (.ref 0), some (.int x1), some (.int x2), some (.int x3), some (.int x4), some (.int x5), none, none, none]) rfl rfl ?_
      simp only [if_neg h56] at hJ69
      first | exact hJ69 | (simp only [if_neg h56]; exact hJ69)
def fX0_quarrels_L29 (x1 : Int32) (x2 : Int32) (x3 : Int32) (rec21 : (Int32 × Sg) → Option Sg) (rec29 : (Int32 × Sg) → Option Sg) (s : Int32 × Sg) : Option Sg :=
  match s with
  | (x4, σ) => if 9 ≤ x4 then rec21 ((x3 + 1), σ) else if inb x3 200 then if (gi σ 46 x3.toNatClampNeg) = 0 then fX0_quarrels_J105 x1 x2 x3 x4 ((9 * x3) + x4) rec21 rec29 σ else if inb x3 200 then if (gi σ 26 x3.toNatClampNeg) ≠ (-1) then fX0_quarrels_J105 x1 x2 x3 x4 ((9 * x3) + x4) rec21 rec29 σ else if x4 = 0 then fX0_quarrels_J81 x1 x2 x3 x4 ((9 * x3) + x4) rec21 rec29 σ else (fX0_wishOf x3 σ).bind fun q70 => if q70 = (-1) then fX0_quarrels_J105 x1 x2 x3 x4 ((9 * x3) + x4) rec21 rec29 σ else fX0_quarrels_J81 x1 x2 x3 x4 ((9 * x3) + x4) rec21 rec29 σ else none else none
set_option maxHeartbeats 1500000 in
theorem fX0_quarrels_L29_ok (x1 : Int32) (x2 : Int32) (x3 : Int32) (rec21 : (Int32 × Sg) → Option Sg) (hrec21 : ∀ (y3 : Int32) (τ : Sg) (r : Sg), rec21 (y3, τ) = some r → Go true 3248 iX0_quarrels (21, [some (.ref 0), some (.int x1), some (.int x2), some (.int y3), none, none, none, none, none], [], τ) (.inl none, r)) : ∀ (n : Nat) (x4 : Int32) (σ : Sg) (r : Sg), lp (fX0_quarrels_L29 x1 x2 x3 rec21) n (x4, σ) = some r → Go true 3248 iX0_quarrels (29, [some (.ref 0), some (.int x1), some (.int x2), some (.int x3), some (.int x4), none, none, none, none], [], σ) (.inl none, r) := by
  intro n
  induction n with
  | zero => intro x4 σ r hf; cases hf
  | succ n ih =>
    intro x4 σ r hf
    have hf : fX0_quarrels_L29 x1 x2 x3 rec21 (lp (fX0_quarrels_L29 x1 x2 x3 rec21) n) (x4, σ) = some r := hf
    have hrec29 := ih
    generalize lp (fX0_quarrels_L29 x1 x2 x3 rec21) n = rec29 at hf hrec29
    unfold fX0_quarrels_L29 at hf
    dsimp only at hf
    refine go_n 2 (f := (33, [some (.ref 0), some (.int x1), some (.int x2), some (.int x3), some (.int x4), none, none, none, none], [.int 9, .int x4], σ)) rfl ?_
    by_cases h32 : 9 ≤ x4
    · rw [if_pos h32] at hf
      refine go_it (t := 176) (f := 36) (L1 := [some (.ref 0), some (.int x1), some (.int x2), some (.int x3), some (.int x4), none, none, none, none]) (st1 := []) (σ1 := σ) rfl h32 ?_
      refine go_n 2 (f := (21, [some (.ref 0), some (.int x1), some (.int x2), some (.int (x3 + 1)), some (.int x4), none, none, none, none], [], σ)) rfl ?_
      refine go_e (L1 := [some (.ref 0), some (.int x1), some (.int x2), some (.int (x3 + 1)), none, none, none, none, none]) rfl rfl ?_
      exact hrec21 _ _ _ hf
    · rw [if_neg h32] at hf
      refine go_if (t := 176) (f := 36) (L1 := [some (.ref 0), some (.int x1), some (.int x2), some (.int x3), some (.int x4), none, none, none, none]) (st1 := []) (σ1 := σ) rfl h32 ?_
      refine go_n 10 (f := (53, [some (.ref 0), some (.int x1), some (.int x2), some (.int x3), some (.int x4), some (.int ((9 * x3) + x4)), none, none, none], [.int x3, .ref 46], σ)) rfl ?_
      obtain ⟨h33, hf⟩ := grd hf
      refine go_bald rfl rfl (Or.inr rfl) h33 ?_
      by_cases h34 : (gi σ 46 x3.toNatClampNeg) = 0
      · rw [if_pos h34] at hf
        refine go_it (t := 105) (f := 57) (L1 := [some (.ref 0), some (.int x1), some (.int x2), some (.int x3), some (.int x4), some (.int ((9 * x3) + x4)), none, none, none]) (st1 := []) (σ1 := σ) rfl h34 ?_
        exact fX0_quarrels_J105_ok _ _ _ _ _ _ _ _ hrec21 hrec29 _ hf
      · rw [if_neg h34] at hf
        refine go_if (t := 105) (f := 57) (L1 := [some (.ref 0), some (.int x1), some (.int x2), some (.int x3), some (.int x4), some (.int ((9 * x3) + x4)), none, none, none]) (st1 := []) (σ1 := σ) rfl h34 ?_
        refine go_n 3 (f := (62, [some (.ref 0), some (.int x1), some (.int x2), some (.int x3), some (.int x4), some (.int ((9 * x3) + x4)), none, none, none], [.int x3, .ref 26], σ)) rfl ?_
        obtain ⟨h49, hf⟩ := grd hf
        refine go_iald rfl rfl rfl h49 ?_
        refine go_n 1 (f := (64, [some (.ref 0), some (.int x1), some (.int x2), some (.int x3), some (.int x4), some (.int ((9 * x3) + x4)), none, none, none], [.int (-1), .int (gi σ 26 x3.toNatClampNeg)], σ)) rfl ?_
        by_cases h50 : (gi σ 26 x3.toNatClampNeg) ≠ (-1)
        · rw [if_pos h50] at hf
          refine go_it (t := 105) (f := 67) (L1 := [some (.ref 0), some (.int x1), some (.int x2), some (.int x3), some (.int x4), some (.int ((9 * x3) + x4)), none, none, none]) (st1 := []) (σ1 := σ) rfl h50 ?_
          exact fX0_quarrels_J105_ok _ _ _ _ _ _ _ _ hrec21 hrec29 _ hf
        · rw [if_neg h50] at hf
          refine go_if (t := 105) (f := 67) (L1 := [some (.ref 0), some (.int x1), some (.int x2), some (.int x3), some (.int x4), some (.int ((9 * x3) + x4)), none, none, none]) (st1 := []) (σ1 := σ) rfl h50 ?_
          refine go_n 1 (f := (69, [some (.ref 0), some (.int x1), some (.int x2), some (.int x3), some (.int x4), some (.int ((9 * x3) + x4)), none, none, none], [.int x4], σ)) rfl ?_
          by_cases h51 : x4 = 0
          · rw [if_pos h51] at hf
            refine go_it (t := 81) (f := 72) (L1 := [some (.ref 0), some (.int x1), some (.int x2), some (.int x3), some (.int x4), some (.int ((9 * x3) + x4)), none, none, none]) (st1 := []) (σ1 := σ) rfl h51 ?_
            exact fX0_quarrels_J81_ok _ _ _ _ _ _ _ _ hrec21 hrec29 _ hf
          · rw [if_neg h51] at hf
            refine go_if (t := 81) (f := 72) (L1 := [some (.ref 0), some (.int x1), some (.int x2), some (.int x3), some (.int x4), some (.int ((9 * x3) + x4)), none, none, none]) (st1 := []) (σ1 := σ) rfl h51 ?_
            refine go_n 2 (f := (74, [some (.ref 0), some (.int x1), some (.int x2), some (.int x3), some (.int x4), some (.int ((9 * x3) + x4)), none, none, none], [.int x3, .ref 0], σ)) rfl ?_
            obtain ⟨q70, h71, hf⟩ := bnd hf
            refine go_c (mid := 5192) (args := [.ref 0, .int x3]) (pc := 77) (L := [some (.ref 0), some (.int x1), some (.int x2), some (.int x3), some (.int x4), some (.int ((9 * x3) + x4)), none, none, none]) (st := []) (σ := σ) rfl ((fX0_wishOf_ok _ _ q70 h71).deep (Nat.le_of_ble_eq_true rfl)) ?_
            refine go_n 1 (f := (78, [some (.ref 0), some (.int x1), some (.int x2), some (.int x3), some (.int x4), some (.int ((9 * x3) + x4)), none, none, none], [.int (-1), .int q70], σ)) rfl ?_
            by_cases h72 : q70 = (-1)
            · rw [if_pos h72] at hf
              refine go_it (t := 105) (f := 81) (L1 := [some (.ref 0), some (.int x1), some (.int x2), some (.int x3), some (.int x4), some (.int ((9 * x3) + x4)), none, none, none]) (st1 := []) (σ1 := σ) rfl h72 ?_
              exact fX0_quarrels_J105_ok _ _ _ _ _ _ _ _ hrec21 hrec29 _ hf
            · rw [if_neg h72] at hf
              refine go_if (t := 105) (f := 81) (L1 := [some (.ref 0), some (.int x1), some (.int x2), some (.int x3), some (.int x4), some (.int ((9 * x3) + x4)), none, none, none]) (st1 := []) (σ1 := σ) rfl h72 ?_
              exact fX0_quarrels_J81_ok _ _ _ _ _ _ _ _ hrec21 hrec29 _ hf
def fX0_quarrels_L21 (x1 : Int32) (x2 : Int32)  (rec21 : (Int32 × Sg) → Option Sg) (s : Int32 × Sg) : Option Sg :=
  match s with
  | (x3, σ) => if x2 ≤ x3 then lp (fX0_quarrels_L184 x2 ) N0 (0, σ) else lp (fX0_quarrels_L29 x1 x2 x3 rec21) N0 (0, σ)
set_option maxHeartbeats 1500000 in
theorem fX0_quarrels_L21_ok (x1 : Int32) (x2 : Int32)   : ∀ (n : Nat) (x3 : Int32) (σ : Sg) (r : Sg), lp (fX0_quarrels_L21 x1 x2 ) n (x3, σ) = some r → Go true 3248 iX0_quarrels (21, [some (.ref 0), some (.int x1), some (.int x2), some (.int x3), none, none, none, none, none], [], σ) (.inl none, r) := by
  intro n
  induction n with
  | zero => intro x3 σ r hf; cases hf
  | succ n ih =>
    intro x3 σ r hf
    have hf : fX0_quarrels_L21 x1 x2  (lp (fX0_quarrels_L21 x1 x2 ) n) (x3, σ) = some r := hf
    have hrec21 := ih
    generalize lp (fX0_quarrels_L21 x1 x2 ) n = rec21 at hf hrec21
    unfold fX0_quarrels_L21 at hf
    dsimp only at hf
    refine go_n 2 (f := (23, [some (.ref 0), some (.int x1), some (.int x2), some (.int x3), none, none, none, none, none], [.int x2, .int x3], σ)) rfl ?_
    by_cases h5 : x2 ≤ x3
    · rw [if_pos h5] at hf
      refine go_it (t := 182) (f := 26) (L1 := [some (.ref 0), some (.int x1), some (.int x2), some (.int x3), none, none, none, none, none]) (st1 := []) (σ1 := σ) rfl h5 ?_
      refine go_n 2 (f := (184, [some (.ref 0), some (.int x1), some (.int x2), some (.int 0), none, none, none, none, none], [], σ)) rfl ?_
      refine go_e (L1 := [some (.ref 0), none, some (.int x2), some (.int 0), none, none, none, none, none]) rfl rfl ?_
      exact fX0_quarrels_L184_ok _   N0 _ _ _ hf
    · rw [if_neg h5] at hf
      refine go_if (t := 182) (f := 26) (L1 := [some (.ref 0), some (.int x1), some (.int x2), some (.int x3), none, none, none, none, none]) (st1 := []) (σ1 := σ) rfl h5 ?_
      refine go_n 2 (f := (29, [some (.ref 0), some (.int x1), some (.int x2), some (.int x3), some (.int 0), none, none, none, none], [], σ)) rfl ?_
      exact fX0_quarrels_L29_ok _ _ _ _ hrec21 N0 _ _ _ hf
def fX0_quarrels (x1 : Int32) (σ : Sg) : Option Sg :=
  (fX6_looks x1 σ).bind fun q1 => (fJ2_size 2 q1).bind fun q3 => lp (fX0_quarrels_L21 x1 q3 ) N0 (0, q1)
set_option maxHeartbeats 1500000 in
theorem fX0_quarrels_ok (x1 : Int32) (σ : Sg) (r : Sg) (hf : fX0_quarrels x1 σ = some r) : Cl true 3248 5191 [.ref 0, .int x1] σ (.inl none, r) := by
  refine ⟨iX0_quarrels, rfl, Nat.le_of_ble_eq_true rfl, Nat.le_of_ble_eq_true rfl, ?_⟩
  show Go true 3248 iX0_quarrels (0, [some (.ref 0), some (.int x1), none, none, none, none, none, none, none], [], σ) (.inl none, r)
  unfold fX0_quarrels at hf
  refine go_n 3 (f := (5, [some (.ref 0), some (.int x1), none, none, none, none, none, none, none], [.int x1, .ref 39], σ)) rfl ?_
  obtain ⟨q1, h2, hf⟩ := bnd hf
  refine go_c (mid := 11777) (args := [.ref 39, .int x1]) (pc := 8) (L := [some (.ref 0), some (.int x1), none, none, none, none, none, none, none]) (st := []) (σ := σ) rfl ((fX6_looks_ok _ _ q1 h2).deep (Nat.le_of_ble_eq_true rfl)) ?_
  refine go_n 3 (f := (15, [some (.ref 0), some (.int x1), none, none, none, none, none, none, none], [.ref 2], q1)) rfl ?_
  obtain ⟨q3, h4, hf⟩ := bnd hf
  refine go_c (mid := 2821) (args := [.ref 2]) (pc := 18) (L := [some (.ref 0), some (.int x1), none, none, none, none, none, none, none]) (st := []) (σ := q1) rfl ((fJ2_size_ok _ _ q3 h4).deep (Nat.le_of_ble_eq_true rfl)) ?_
  refine go_n 3 (f := (21, [some (.ref 0), some (.int x1), some (.int q3), some (.int 0), none, none, none, none, none], [], q1)) rfl ?_
  exact fX0_quarrels_L21_ok _ _   N0 _ _ _ hf
/-! OldWeather.beside(IIII)I -/
def fX0_beside (x1 : Int32) (x2 : Int32) (x3 : Int32) (x4 : Int32) (σ : Sg) : Option (Int32 × Sg) :=
  if (gi σ 0 40) = (-1) then some ((-100000), σ) else (fX0_isPlace x1 σ).bind fun q2 => if q2 = 0 then some ((-100000), σ) else (fX0_isDay x2).bind fun q5 => if q5 = 0 then some ((-100000), σ) else (fX0_isDesk x3).bind fun q8 => if q8 = 0 then some ((-100000), σ) else (fX0_in x4 0 4).bind fun q11 => if q11 ≠ 0 then (fX0_joins x1 x2 x3 (-1) 1 σ).bind fun q14 => (fX0_tells x4 q14).bind fun q16 => some (q16, q14) else some ((-100000), σ)
set_option maxHeartbeats 1500000 in
theorem fX0_beside_ok (x1 : Int32) (x2 : Int32) (x3 : Int32) (x4 : Int32) (σ : Sg) (r : (Int32 × Sg)) (hf : fX0_beside x1 x2 x3 x4 σ = some r) : Cl true 3249 5199 [.ref 0, .int x1, .int x2, .int x3, .int x4] σ (.inl (some (.int (r).1)), (r).2) := by
  refine ⟨iX0_beside, rfl, Nat.le_of_ble_eq_true rfl, Nat.le_of_ble_eq_true rfl, ?_⟩
  show Go true 3249 iX0_beside (0, [some (.ref 0), some (.int x1), some (.int x2), some (.int x3), some (.int x4)], [], σ) (.inl (some (.int (r).1)), (r).2)
  unfold fX0_beside at hf
  refine go_n 3 (f := (5, [some (.ref 0), some (.int x1), some (.int x2), some (.int x3), some (.int x4)], [.int (-1), .int (gi σ 0 40)], σ)) rfl ?_
  by_cases h1 : (gi σ 0 40) = (-1)
  · rw [if_pos h1] at hf
    refine go_it (t := 40) (f := 8) (L1 := [some (.ref 0), some (.int x1), some (.int x2), some (.int x3), some (.int x4)]) (st1 := []) (σ1 := σ) rfl h1 ?_
    refine go_e (L1 := [none, none, none, none, none]) rfl rfl ?_
    refine go_n 1 (f := (43, [none, none, none, none, none], [.int (-100000)], σ)) rfl ?_
    cases hf
    exact go_r rfl
  · rw [if_neg h1] at hf
    refine go_if (t := 40) (f := 8) (L1 := [some (.ref 0), some (.int x1), some (.int x2), some (.int x3), some (.int x4)]) (st1 := []) (σ1 := σ) rfl h1 ?_
    refine go_n 2 (f := (10, [some (.ref 0), some (.int x1), some (.int x2), some (.int x3), some (.int x4)], [.int x1, .ref 0], σ)) rfl ?_
    obtain ⟨q2, h3, hf⟩ := bnd hf
    refine go_c (mid := 5139) (args := [.ref 0, .int x1]) (pc := 13) (L := [some (.ref 0), some (.int x1), some (.int x2), some (.int x3), some (.int x4)]) (st := []) (σ := σ) rfl ((fX0_isPlace_ok _ _ q2 h3).deep (Nat.le_of_ble_eq_true rfl)) ?_
    by_cases h4 : q2 = 0
    · rw [if_pos h4] at hf
      refine go_it (t := 40) (f := 16) (L1 := [some (.ref 0), some (.int x1), some (.int x2), some (.int x3), some (.int x4)]) (st1 := []) (σ1 := σ) rfl h4 ?_
      refine go_e (L1 := [none, none, none, none, none]) rfl rfl ?_
      refine go_n 1 (f := (43, [none, none, none, none, none], [.int (-100000)], σ)) rfl ?_
      cases hf
      exact go_r rfl
    · rw [if_neg h4] at hf
      refine go_if (t := 40) (f := 16) (L1 := [some (.ref 0), some (.int x1), some (.int x2), some (.int x3), some (.int x4)]) (st1 := []) (σ1 := σ) rfl h4 ?_
      refine go_n 1 (f := (17, [some (.ref 0), some (.int x1), some (.int x2), some (.int x3), some (.int x4)], [.int x2], σ)) rfl ?_
      obtain ⟨q5, h6, hf⟩ := bnd hf
      refine go_c (mid := 5128) (args := [.int x2]) (pc := 20) (L := [some (.ref 0), some (.int x1), some (.int x2), some (.int x3), some (.int x4)]) (st := []) (σ := σ) rfl ((fX0_isDay_ok _ _ q5 h6).deep (Nat.le_of_ble_eq_true rfl)) ?_
      by_cases h7 : q5 = 0
      · rw [if_pos h7] at hf
        refine go_it (t := 40) (f := 23) (L1 := [some (.ref 0), some (.int x1), some (.int x2), some (.int x3), some (.int x4)]) (st1 := []) (σ1 := σ) rfl h7 ?_
        refine go_e (L1 := [none, none, none, none, none]) rfl rfl ?_
        refine go_n 1 (f := (43, [none, none, none, none, none], [.int (-100000)], σ)) rfl ?_
        cases hf
        exact go_r rfl
      · rw [if_neg h7] at hf
        refine go_if (t := 40) (f := 23) (L1 := [some (.ref 0), some (.int x1), some (.int x2), some (.int x3), some (.int x4)]) (st1 := []) (σ1 := σ) rfl h7 ?_
        refine go_n 1 (f := (24, [some (.ref 0), some (.int x1), some (.int x2), some (.int x3), some (.int x4)], [.int x3], σ)) rfl ?_
        obtain ⟨q8, h9, hf⟩ := bnd hf
        refine go_c (mid := 5147) (args := [.int x3]) (pc := 27) (L := [some (.ref 0), some (.int x1), some (.int x2), some (.int x3), some (.int x4)]) (st := []) (σ := σ) rfl ((fX0_isDesk_ok _ _ q8 h9).deep (Nat.le_of_ble_eq_true rfl)) ?_
        by_cases h10 : q8 = 0
        · rw [if_pos h10] at hf
          refine go_it (t := 40) (f := 30) (L1 := [some (.ref 0), some (.int x1), some (.int x2), some (.int x3), some (.int x4)]) (st1 := []) (σ1 := σ) rfl h10 ?_
          refine go_e (L1 := [none, none, none, none, none]) rfl rfl ?_
          refine go_n 1 (f := (43, [none, none, none, none, none], [.int (-100000)], σ)) rfl ?_
          cases hf
          exact go_r rfl
        · rw [if_neg h10] at hf
          refine go_if (t := 40) (f := 30) (L1 := [some (.ref 0), some (.int x1), some (.int x2), some (.int x3), some (.int x4)]) (st1 := []) (σ1 := σ) rfl h10 ?_
          refine go_n 3 (f := (34, [some (.ref 0), some (.int x1), some (.int x2), some (.int x3), some (.int x4)], [.int 4, .int 0, .int x4], σ)) rfl ?_
          obtain ⟨q11, h12, hf⟩ := bnd hf
          refine go_c (mid := 5122) (args := [.int x4, .int 0, .int 4]) (pc := 37) (L := [some (.ref 0), some (.int x1), some (.int x2), some (.int x3), some (.int x4)]) (st := []) (σ := σ) rfl ((fX0_in_ok _ _ _ _ q11 h12).deep (Nat.le_of_ble_eq_true rfl)) ?_
          by_cases h13 : q11 ≠ 0
          · rw [if_pos h13] at hf
            refine go_it (t := 44) (f := 40) (L1 := [some (.ref 0), some (.int x1), some (.int x2), some (.int x3), some (.int x4)]) (st1 := []) (σ1 := σ) rfl h13 ?_
            refine go_n 6 (f := (50, [some (.ref 0), some (.int x1), some (.int x2), some (.int x3), some (.int x4)], [.int 1, .int (-1), .int x3, .int x2, .int x1, .ref 0], σ)) rfl ?_
            obtain ⟨q14, h15, hf⟩ := bnd hf
            refine go_c (mid := 5183) (args := [.ref 0, .int x1, .int x2, .int x3, .int (-1), .int 1]) (pc := 53) (L := [some (.ref 0), some (.int x1), some (.int x2), some (.int x3), some (.int x4)]) (st := []) (σ := σ) rfl ((fX0_joins_ok _ _ _ _ _ _ q14 h15).deep (Nat.le_of_ble_eq_true rfl)) ?_
            refine go_n 2 (f := (56, [some (.ref 0), some (.int x1), some (.int x2), some (.int x3), some (.int x4)], [.int x4, .ref 0], q14)) rfl ?_
            obtain ⟨q16, h17, hf⟩ := bnd hf
            refine go_c (mid := 5185) (args := [.ref 0, .int x4]) (pc := 59) (L := [some (.ref 0), some (.int x1), some (.int x2), some (.int x3), some (.int x4)]) (st := []) (σ := q14) rfl ((fX0_tells_ok _ _ q16 h17).deep (Nat.le_of_ble_eq_true rfl)) ?_
            cases hf
            exact go_r rfl
          · rw [if_neg h13] at hf
            refine go_if (t := 44) (f := 40) (L1 := [some (.ref 0), some (.int x1), some (.int x2), some (.int x3), some (.int x4)]) (st1 := []) (σ1 := σ) rfl h13 ?_
            refine go_e (L1 := [none, none, none, none, none]) rfl rfl ?_
            refine go_n 1 (f := (43, [none, none, none, none, none], [.int (-100000)], σ)) rfl ?_
            cases hf
            exact go_r rfl
/-! OldWeather.judge(II)I -/
def fX0_judge_L18 (x2 : Int32)  (rec18 : (Int32 × Int32 × Sg) → Option (Int32 × Sg)) (s : Int32 × Int32 × Sg) : Option (Int32 × Sg) :=
  match s with
  | (x3, x4, σ) => if (gi σ 0 39) ≤ x4 then if x3 ≤ 0 then (fX0_quarrels x2 σ).bind fun q7 => (fX0_quarrelsOfRow  q7).bind fun q9 => some (q9, q7) else some ((-1), σ) else if inb x4 5 then rec18 ((x3 / 9), (x4 + 1), (wi σ 51 x4.toNatClampNeg (x3 - x3 / 9 * 9))) else none
set_option maxHeartbeats 1500000 in
theorem fX0_judge_L18_ok (x2 : Int32)   : ∀ (n : Nat) (x3 : Int32) (x4 : Int32) (σ : Sg) (r : (Int32 × Sg)), lp (fX0_judge_L18 x2 ) n (x3, x4, σ) = some r → Go true 3249 iX0_judge (18, [some (.ref 0), none, some (.int x2), some (.int x3), some (.int x4)], [], σ) (.inl (some (.int (r).1)), (r).2) := by
  intro n
  induction n with
  | zero => intro x3 x4 σ r hf; cases hf
  | succ n ih =>
    intro x3 x4 σ r hf
    have hf : fX0_judge_L18 x2  (lp (fX0_judge_L18 x2 ) n) (x3, x4, σ) = some r := hf
    have hrec18 := ih
    generalize lp (fX0_judge_L18 x2 ) n = rec18 at hf hrec18
    unfold fX0_judge_L18 at hf
    dsimp only at hf
    refine go_n 3 (f := (24, [some (.ref 0), none, some (.int x2), some (.int x3), some (.int x4)], [.int (gi σ 0 39), .int x4], σ)) rfl ?_
    by_cases h5 : (gi σ 0 39) ≤ x4
    · rw [if_pos h5] at hf
      refine go_it (t := 49) (f := 27) (L1 := [some (.ref 0), none, some (.int x2), some (.int x3), some (.int x4)]) (st1 := []) (σ1 := σ) rfl h5 ?_
      refine go_n 1 (f := (50, [some (.ref 0), none, some (.int x2), some (.int x3), some (.int x4)], [.int x3], σ)) rfl ?_
      by_cases h6 : x3 ≤ 0
      · rw [if_pos h6] at hf
        refine go_it (t := 55) (f := 53) (L1 := [some (.ref 0), none, some (.int x2), some (.int x3), some (.int x4)]) (st1 := []) (σ1 := σ) rfl h6 ?_
        refine go_n 2 (f := (57, [some (.ref 0), none, some (.int x2), some (.int x3), some (.int x4)], [.int x2, .ref 0], σ)) rfl ?_
        obtain ⟨q7, h8, hf⟩ := bnd hf
        refine go_c (mid := 5191) (args := [.ref 0, .int x2]) (pc := 60) (L := [some (.ref 0), none, some (.int x2), some (.int x3), some (.int x4)]) (st := []) (σ := σ) rfl ((fX0_quarrels_ok _ _ q7 h8).deep (Nat.le_of_ble_eq_true rfl)) ?_
        refine go_n 1 (f := (61, [some (.ref 0), none, some (.int x2), some (.int x3), some (.int x4)], [.ref 0], q7)) rfl ?_
        obtain ⟨q9, h10, hf⟩ := bnd hf
        refine go_c (mid := 5197) (args := [.ref 0]) (pc := 64) (L := [some (.ref 0), none, some (.int x2), some (.int x3), some (.int x4)]) (st := []) (σ := q7) rfl ((fX0_quarrelsOfRow_ok _ q9 h10).deep (Nat.le_of_ble_eq_true rfl)) ?_
        cases hf
        exact go_r rfl
      · rw [if_neg h6] at hf
        refine go_if (t := 55) (f := 53) (L1 := [some (.ref 0), none, some (.int x2), some (.int x3), some (.int x4)]) (st1 := []) (σ1 := σ) rfl h6 ?_
        refine go_n 1 (f := (54, [some (.ref 0), none, some (.int x2), some (.int x3), some (.int x4)], [.int (-1)], σ)) rfl ?_
        cases hf
        exact go_r rfl
    · rw [if_neg h5] at hf
      refine go_if (t := 49) (f := 27) (L1 := [some (.ref 0), none, some (.int x2), some (.int x3), some (.int x4)]) (st1 := []) (σ1 := σ) rfl h5 ?_
      refine go_n 5 (f := (36, [some (.ref 0), none, some (.int x2), some (.int x3), some (.int x4)], [.int 9, .int x3, .int x4, .ref 51], σ)) rfl ?_
      refine go_irem rfl rfl (by decide) ?_
      obtain ⟨h11, hf⟩ := grd hf
      refine go_iast rfl rfl rfl h11 ?_
      refine go_n 2 (f := (41, [some (.ref 0), none, some (.int x2), some (.int x3), some (.int x4)], [.int 9, .int x3], (wi σ 51 x4.toNatClampNeg (x3 - x3 / 9 * 9)))) rfl ?_
      refine go_idiv rfl rfl (by decide) ?_
      refine go_n 2 (f := (46, [some (.ref 0), none, some (.int x2), some (.int (x3 / 9)), some (.int (x4 + 1))], [], (wi σ 51 x4.toNatClampNeg (x3 - x3 / 9 * 9)))) rfl ?_
      refine go_n 1 (f := (18, [some (.ref 0), none, some (.int x2), some (.int (x3 / 9)), some (.int (x4 + 1))], [], (wi σ 51 x4.toNatClampNeg (x3 - x3 / 9 * 9)))) rfl ?_
      exact hrec18 _ _ _ _ hf
def fX0_judge (x1 : Int32) (x2 : Int32) (σ : Sg) : Option (Int32 × Sg) :=
  if x1 < 0 then some ((-1), σ) else (fX0_isDesk x2).bind fun q2 => if q2 ≠ 0 then lp (fX0_judge_L18 x2 ) N0 (x1, 0, σ) else some ((-1), σ)
set_option maxHeartbeats 1500000 in
theorem fX0_judge_ok (x1 : Int32) (x2 : Int32) (σ : Sg) (r : (Int32 × Sg)) (hf : fX0_judge x1 x2 σ = some r) : Cl true 3249 5200 [.ref 0, .int x1, .int x2] σ (.inl (some (.int (r).1)), (r).2) := by
  refine ⟨iX0_judge, rfl, Nat.le_of_ble_eq_true rfl, Nat.le_of_ble_eq_true rfl, ?_⟩
  show Go true 3249 iX0_judge (0, [some (.ref 0), some (.int x1), some (.int x2), none, none], [], σ) (.inl (some (.int (r).1)), (r).2)
  unfold fX0_judge at hf
  refine go_n 1 (f := (1, [some (.ref 0), some (.int x1), some (.int x2), none, none], [.int x1], σ)) rfl ?_
  by_cases h1 : x1 < 0
  · rw [if_pos h1] at hf
    refine go_it (t := 11) (f := 4) (L1 := [some (.ref 0), some (.int x1), some (.int x2), none, none]) (st1 := []) (σ1 := σ) rfl h1 ?_
    refine go_e (L1 := [none, none, none, none, none]) rfl rfl ?_
    refine go_n 1 (f := (12, [none, none, none, none, none], [.int (-1)], σ)) rfl ?_
    cases hf
    exact go_r rfl
  · rw [if_neg h1] at hf
    refine go_if (t := 11) (f := 4) (L1 := [some (.ref 0), some (.int x1), some (.int x2), none, none]) (st1 := []) (σ1 := σ) rfl h1 ?_
    refine go_n 1 (f := (5, [some (.ref 0), some (.int x1), some (.int x2), none, none], [.int x2], σ)) rfl ?_
    obtain ⟨q2, h3, hf⟩ := bnd hf
    refine go_c (mid := 5147) (args := [.int x2]) (pc := 8) (L := [some (.ref 0), some (.int x1), some (.int x2), none, none]) (st := []) (σ := σ) rfl ((fX0_isDesk_ok _ _ q2 h3).deep (Nat.le_of_ble_eq_true rfl)) ?_
    by_cases h4 : q2 ≠ 0
    · rw [if_pos h4] at hf
      refine go_it (t := 13) (f := 11) (L1 := [some (.ref 0), some (.int x1), some (.int x2), none, none]) (st1 := []) (σ1 := σ) rfl h4 ?_
      refine go_n 4 (f := (18, [some (.ref 0), some (.int x1), some (.int x2), some (.int x1), some (.int 0)], [], σ)) rfl ?_
      refine go_e (L1 := [some (.ref 0), none, some (.int x2), some (.int x1), some (.int 0)]) rfl rfl ?_
      exact fX0_judge_L18_ok _   N0 _ _ _ _ hf
    · rw [if_neg h4] at hf
      refine go_if (t := 13) (f := 11) (L1 := [some (.ref 0), some (.int x1), some (.int x2), none, none]) (st1 := []) (σ1 := σ) rfl h4 ?_
      refine go_e (L1 := [none, none, none, none, none]) rfl rfl ?_
      refine go_n 1 (f := (12, [none, none, none, none, none], [.int (-1)], σ)) rfl ?_
      cases hf
      exact go_r rfl
