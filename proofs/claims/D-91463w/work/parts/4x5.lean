set_option maxRecDepth 100000
/-! OldWeather.winters(III)V -/
def fX0_winters_L44 (x1 : Int32) (x3 : Int32) (x5 : Int32)  (rec44 : (Int32 × Sg) → Option Sg) (s : Int32 × Sg) : Option Sg :=
  match s with
  | (x6, σ) => if x5 ≤ x6 then some σ else (fX0_joins x1 x6 x3 (-1) 0 σ).bind fun q6 => rec44 ((x6 + 1), (wl (wl q6 0 45 ((gl q6 0 45) + (gi q6 0 22).toInt64)) 0 46 ((gl q6 0 46) + (gi q6 0 23).toInt64)))
set_option maxHeartbeats 1500000 in
theorem fX0_winters_L44_ok (x1 : Int32) (x3 : Int32) (x5 : Int32)   : ∀ (n : Nat) (x6 : Int32) (σ : Sg) (r : Sg), lp (fX0_winters_L44 x1 x3 x5 ) n (x6, σ) = some r → Go true 3249 iX0_winters (44, [some (.ref 0), some (.int x1), none, some (.int x3), none, some (.int x5), some (.int x6)], [], σ) (.inl none, r) := by
  intro n
  induction n with
  | zero => intro x6 σ r hf; cases hf
  | succ n ih =>
    intro x6 σ r hf
    have hf : fX0_winters_L44 x1 x3 x5  (lp (fX0_winters_L44 x1 x3 x5 ) n) (x6, σ) = some r := hf
    have hrec44 := ih
    generalize lp (fX0_winters_L44 x1 x3 x5 ) n = rec44 at hf hrec44
    unfold fX0_winters_L44 at hf
    dsimp only at hf
    refine go_n 2 (f := (48, [some (.ref 0), some (.int x1), none, some (.int x3), none, some (.int x5), some (.int x6)], [.int x5, .int x6], σ)) rfl ?_
    by_cases h5 : x5 ≤ x6
    · rw [if_pos h5] at hf
      refine go_it (t := 95) (f := 51) (L1 := [some (.ref 0), some (.int x1), none, some (.int x3), none, some (.int x5), some (.int x6)]) (st1 := []) (σ1 := σ) rfl h5 ?_
      cases hf
      exact go_r rfl
    · rw [if_neg h5] at hf
      refine go_if (t := 95) (f := 51) (L1 := [some (.ref 0), some (.int x1), none, some (.int x3), none, some (.int x5), some (.int x6)]) (st1 := []) (σ1 := σ) rfl h5 ?_
      refine go_n 6 (f := (58, [some (.ref 0), some (.int x1), none, some (.int x3), none, some (.int x5), some (.int x6)], [.int 0, .int (-1), .int x3, .int x6, .int x1, .ref 0], σ)) rfl ?_
      obtain ⟨q6, h7, hf⟩ := bnd hf
      refine go_c (mid := 5183) (args := [.ref 0, .int x1, .int x6, .int x3, .int (-1), .int 0]) (pc := 61) (L := [some (.ref 0), some (.int x1), none, some (.int x3), none, some (.int x5), some (.int x6)]) (st := []) (σ := σ) rfl ((fX0_joins_ok _ _ _ _ _ _ q6 h7).deep (Nat.le_of_ble_eq_true rfl)) ?_
      refine go_n 10 (f := (77, [some (.ref 0), some (.int x1), none, some (.int x3), none, some (.int x5), some (.int x6)], [.ref 0, .ref 0], (wl q6 0 45 ((gl q6 0 45) + (gi q6 0 22).toInt64)))) rfl ?_
      refine go_n 7 (f := (92, [some (.ref 0), some (.int x1), none, some (.int x3), none, some (.int x5), some (.int (x6 + 1))], [], (wl (wl q6 0 45 ((gl q6 0 45) + (gi q6 0 22).toInt64)) 0 46 ((gl q6 0 46) + (gi q6 0 23).toInt64)))) rfl ?_
      refine go_n 1 (f := (44, [some (.ref 0), some (.int x1), none, some (.int x3), none, some (.int x5), some (.int (x6 + 1))], [], (wl (wl q6 0 45 ((gl q6 0 45) + (gi q6 0 22).toInt64)) 0 46 ((gl q6 0 46) + (gi q6 0 23).toInt64)))) rfl ?_
      exact hrec44 _ _ _ hf
def fX0_winters (x1 : Int32) (x2 : Int32) (x3 : Int32) (σ : Sg) : Option Sg :=
  (fX0_dayAt (x2 - 1) 12 1 1).bind fun q1 => (fX0_dayAt x2 3 1 1).bind fun q3 => lp (fX0_winters_L44 x1 x3 q3 ) N0 (q1, (wl (wl (wi σ 0 44 (q3 - q1)) 0 45 0) 0 46 0))
set_option maxHeartbeats 1500000 in
theorem fX0_winters_ok (x1 : Int32) (x2 : Int32) (x3 : Int32) (σ : Sg) (r : Sg) (hf : fX0_winters x1 x2 x3 σ = some r) : Cl true 3249 5203 [.ref 0, .int x1, .int x2, .int x3] σ (.inl none, r) := by
  refine ⟨iX0_winters, rfl, Nat.le_of_ble_eq_true rfl, Nat.le_of_ble_eq_true rfl, ?_⟩
  show Go true 3249 iX0_winters (0, [some (.ref 0), some (.int x1), some (.int x2), some (.int x3), none, none, none], [], σ) (.inl none, r)
  unfold fX0_winters at hf
  refine go_n 6 (f := (7, [some (.ref 0), some (.int x1), some (.int x2), some (.int x3), none, none, none], [.int 1, .int 1, .int 12, .int (x2 - 1)], σ)) rfl ?_
  obtain ⟨q1, h2, hf⟩ := bnd hf
  refine go_c (mid := 5126) (args := [.int (x2 - 1), .int 12, .int 1, .int 1]) (pc := 10) (L := [some (.ref 0), some (.int x1), some (.int x2), some (.int x3), none, none, none]) (st := []) (σ := σ) rfl ((fX0_dayAt_ok _ _ _ _ _ q1 h2).deep (Nat.le_of_ble_eq_true rfl)) ?_
  refine go_n 5 (f := (16, [some (.ref 0), some (.int x1), some (.int x2), some (.int x3), some (.int q1), none, none], [.int 1, .int 1, .int 3, .int x2], σ)) rfl ?_
  obtain ⟨q3, h4, hf⟩ := bnd hf
  refine go_c (mid := 5126) (args := [.int x2, .int 3, .int 1, .int 1]) (pc := 19) (L := [some (.ref 0), some (.int x1), some (.int x2), some (.int x3), some (.int q1), none, none]) (st := []) (σ := σ) rfl ((fX0_dayAt_ok _ _ _ _ _ q3 h4).deep (Nat.le_of_ble_eq_true rfl)) ?_
  refine go_n 6 (f := (30, [some (.ref 0), some (.int x1), some (.int x2), some (.int x3), some (.int q1), some (.int q3), none], [], (wi σ 0 44 (q3 - q1)))) rfl ?_
  refine go_n 6 (f := (40, [some (.ref 0), some (.int x1), some (.int x2), some (.int x3), some (.int q1), some (.int q3), none], [], (wl (wl (wi σ 0 44 (q3 - q1)) 0 45 0) 0 46 0))) rfl ?_
  refine go_n 2 (f := (44, [some (.ref 0), some (.int x1), some (.int x2), some (.int x3), some (.int q1), some (.int q3), some (.int q1)], [], (wl (wl (wi σ 0 44 (q3 - q1)) 0 45 0) 0 46 0))) rfl ?_
  refine go_e (L1 := [some (.ref 0), some (.int x1), none, some (.int x3), none, some (.int q3), some (.int q1)]) rfl rfl ?_
  exact fX0_winters_L44_ok _ _ _   N0 _ _ _ hf
/-! OldWeather.rank(IIIIII)I -/
def fX0_rank_J194 (x1 : Int32) (x2 : Int32) (x4 : Int32) (x5 : Int32) (x6 : Int32) (x7 : Int32) (x8 : Int64) (x10 : Int64) (x12 : Int32) (x13 : Int32) (rec94 : (Int32 × Int32 × Sg) → Option (Int32 × Sg)) (σ : Sg) : Option (Int32 × Sg) :=
  rec94 (x12, (x13 + 1), σ)
set_option maxHeartbeats 1500000 in
theorem fX0_rank_J194_ok (x1 : Int32) (x2 : Int32) (x4 : Int32) (x5 : Int32) (x6 : Int32) (x7 : Int32) (x8 : Int64) (x10 : Int64) (x12 : Int32) (x13 : Int32) (rec94 : (Int32 × Int32 × Sg) → Option (Int32 × Sg)) (σ : Sg) (hrec94 : ∀ (y12 : Int32) (y13 : Int32) (τ : Sg) (r : (Int32 × Sg)), rec94 (y12, y13, τ) = some r → Go true 3250 iX0_rank (94, [some (.ref 0), some (.int x1), some (.int x2), none, some (.int x4), some (.int x5), some (.int x6), some (.int x7), some (.long x8), none, some (.long x10), none, some (.int y12), some (.int y13), none], [], τ) (.inl (some (.int (r).1)), (r).2)) (r : (Int32 × Sg)) (hf : fX0_rank_J194 x1 x2 x4 x5 x6 x7 x8 x10 x12 x13 rec94 σ = some r) : Go true 3250 iX0_rank (194, [some (.ref 0), some (.int x1), some (.int x2), none, some (.int x4), some (.int x5), some (.int x6), some (.int x7), some (.long x8), none, some (.long x10), none, some (.int x12), some (.int x13), none], [], σ) (.inl (some (.int (r).1)), (r).2) := by
  unfold fX0_rank_J194 at hf
  refine go_n 2 (f := (94, [some (.ref 0), some (.int x1), some (.int x2), none, some (.int x4), some (.int x5), some (.int x6), some (.int x7), some (.long x8), none, some (.long x10), none, some (.int x12), some (.int (x13 + 1)), none], [], σ)) rfl ?_
  exact hrec94 _ _ _ _ hf
def fX0_rank_L94 (x1 : Int32) (x2 : Int32) (x4 : Int32) (x5 : Int32) (x6 : Int32) (x7 : Int32) (x8 : Int64) (x10 : Int64)  (rec94 : (Int32 × Int32 × Sg) → Option (Int32 × Sg)) (s : Int32 × Int32 × Sg) : Option (Int32 × Sg) :=
  match s with
  | (x12, x13, σ) => if x4 < x13 then some (x12, σ) else if x13 ≠ x2 then (fX0_winters x1 x13 x5 σ).bind fun q24 => ((fun (z29 : Int32) => ((fun (z31 : Int32) => fX0_rank_J194 x1 x2 x4 x5 x6 x7 x8 x10 (x12 + z31) x13 rec94 q24) ((if z29 = 0 then 0 else 1) : Int32))) ((if x6 ≠ 0 then (if (x10 * (gi q24 0 44).toInt64) ≤ ((gl q24 0 45) * x7.toInt64) then 0 else 1) else (if (x8 * (gi q24 0 44).toInt64) ≤ ((gl q24 0 46) * x7.toInt64) then 0 else 1)) : Int32)) else fX0_rank_J194 x1 x2 x4 x5 x6 x7 x8 x10 x12 x13 rec94 σ
set_option maxHeartbeats 1500000 in
theorem fX0_rank_L94_ok (x1 : Int32) (x2 : Int32) (x4 : Int32) (x5 : Int32) (x6 : Int32) (x7 : Int32) (x8 : Int64) (x10 : Int64)   : ∀ (n : Nat) (x12 : Int32) (x13 : Int32) (σ : Sg) (r : (Int32 × Sg)), lp (fX0_rank_L94 x1 x2 x4 x5 x6 x7 x8 x10 ) n (x12, x13, σ) = some r → Go true 3250 iX0_rank (94, [some (.ref 0), some (.int x1), some (.int x2), none, some (.int x4), some (.int x5), some (.int x6), some (.int x7), some (.long x8), none, some (.long x10), none, some (.int x12), some (.int x13), none], [], σ) (.inl (some (.int (r).1)), (r).2) := by
  intro n
  induction n with
  | zero => intro x12 x13 σ r hf; cases hf
  | succ n ih =>
    intro x12 x13 σ r hf
    have hf : fX0_rank_L94 x1 x2 x4 x5 x6 x7 x8 x10  (lp (fX0_rank_L94 x1 x2 x4 x5 x6 x7 x8 x10 ) n) (x12, x13, σ) = some r := hf
    have hrec94 := ih
    generalize lp (fX0_rank_L94 x1 x2 x4 x5 x6 x7 x8 x10 ) n = rec94 at hf hrec94
    unfold fX0_rank_L94 at hf
    dsimp only at hf
    refine go_n 2 (f := (98, [some (.ref 0), some (.int x1), some (.int x2), none, some (.int x4), some (.int x5), some (.int x6), some (.int x7), some (.long x8), none, some (.long x10), none, some (.int x12), some (.int x13), none], [.int x4, .int x13], σ)) rfl ?_
    by_cases h22 : x4 < x13
    · rw [if_pos h22] at hf
      refine go_it (t := 200) (f := 101) (L1 := [some (.ref 0), some (.int x1), some (.int x2), none, some (.int x4), some (.int x5), some (.int x6), some (.int x7), some (.long x8), none, some (.long x10), none, some (.int x12), some (.int x13), none]) (st1 := []) (σ1 := σ) rfl h22 ?_
      refine go_n 1 (f := (202, [some (.ref 0), some (.int x1), some (.int x2), none, some (.int x4), some (.int x5), some (.int x6), some (.int x7), some (.long x8), none, some (.long x10), none, some (.int x12), some (.int x13), none], [.int x12], σ)) rfl ?_
      cases hf
      exact go_r rfl
    · rw [if_neg h22] at hf
      refine go_if (t := 200) (f := 101) (L1 := [some (.ref 0), some (.int x1), some (.int x2), none, some (.int x4), some (.int x5), some (.int x6), some (.int x7), some (.long x8), none, some (.long x10), none, some (.int x12), some (.int x13), none]) (st1 := []) (σ1 := σ) rfl h22 ?_
      refine go_n 2 (f := (104, [some (.ref 0), some (.int x1), some (.int x2), none, some (.int x4), some (.int x5), some (.int x6), some (.int x7), some (.long x8), none, some (.long x10), none, some (.int x12), some (.int x13), none], [.int x2, .int x13], σ)) rfl ?_
      by_cases h23 : x13 ≠ x2
      · rw [if_pos h23] at hf
        refine go_it (t := 110) (f := 107) (L1 := [some (.ref 0), some (.int x1), some (.int x2), none, some (.int x4), some (.int x5), some (.int x6), some (.int x7), some (.long x8), none, some (.long x10), none, some (.int x12), some (.int x13), none]) (st1 := []) (σ1 := σ) rfl h23 ?_
        refine go_n 4 (f := (116, [some (.ref 0), some (.int x1), some (.int x2), none, some (.int x4), some (.int x5), some (.int x6), some (.int x7), some (.long x8), none, some (.long x10), none, some (.int x12), some (.int x13), none], [.int x5, .int x13, .int x1, .ref 0], σ)) rfl ?_
        obtain ⟨q24, h25, hf⟩ := bnd hf
        refine go_c (mid := 5203) (args := [.ref 0, .int x1, .int x13, .int x5]) (pc := 119) (L := [some (.ref 0), some (.int x1), some (.int x2), none, some (.int x4), some (.int x5), some (.int x6), some (.int x7), some (.long x8), none, some (.long x10), none, some (.int x12), some (.int x13), none]) (st := []) (σ := σ) rfl ((fX0_winters_ok _ _ _ _ q24 h25).deep (Nat.le_of_ble_eq_true rfl)) ?_
        refine go_n 1 (f := (121, [some (.ref 0), some (.int x1), some (.int x2), none, some (.int x4), some (.int x5), some (.int x6), some (.int x7), some (.long x8), none, some (.long x10), none, some (.int x12), some (.int x13), none], [.int x6], q24)) rfl ?_
        refine go_m (f := (177, [some (.ref 0), some (.int x1), some (.int x2), none, some (.int x4), some (.int x5), some (.int x6), some (.int x7), some (.long x8), none, some (.long x10), none, some (.int x12), some (.int x13), none], [.int ((if x6 ≠ 0 then (if (x10 * (gi q24 0 44).toInt64) ≤ ((gl q24 0 45) * x7.toInt64) then 0 else 1) else (if (x8 * (gi q24 0 44).toInt64) ≤ ((gl q24 0 46) * x7.toInt64) then 0 else 1)) : Int32)], q24)) ?_ (fun hJ33 => ?_)
        · generalize hz29 : ((if x6 ≠ 0 then (if (x10 * (gi q24 0 44).toInt64) ≤ ((gl q24 0 45) * x7.toInt64) then 0 else 1) else (if (x8 * (gi q24 0 44).toInt64) ≤ ((gl q24 0 46) * x7.toInt64) then 0 else 1)) : Int32) = z29 at hf ⊢
          have oz29 : am_ok 3 z29 = true := hz29 ▸ (okb (okb rfl rfl) (okb rfl rfl))
          try dsimp only at hf
          refine go_n 3 (f := (183, [some (.ref 0), some (.int x1), some (.int x2), none, some (.int x4), some (.int x5), some (.int x6), some (.int x7), some (.long x8), none, some (.long x10), none, some (.int x12), some (.int x13), some (.int z29)], [.int z29, .int x12], q24)) rfl ?_
          refine go_m (f := (191, [some (.ref 0), some (.int x1), some (.int x2), none, some (.int x4), some (.int x5), some (.int x6), some (.int x7), some (.long x8), none, some (.long x10), none, none, some (.int x13), none], [.int ((if z29 = 0 then 0 else 1) : Int32), .int x12], q24)) ?_ (fun hJ32 => ?_)
          · generalize hz31 : ((if z29 = 0 then 0 else 1) : Int32) = z31 at hf ⊢
            have oz31 : am_ok 3 z31 = true := hz31 ▸ (okb rfl rfl)
            try dsimp only at hf
            refine go_n 2 (f := (194, [some (.ref 0), some (.int x1), some (.int x2), none, some (.int x4), some (.int x5), some (.int x6), some (.int x7), some (.long x8), none, some (.long x10), none, some (.int (x12 + z31)), some (.int x13), none], [], q24)) rfl ?_
            exact fX0_rank_J194_ok _ _ _ _ _ _ _ _ _ _ _ _ hrec94 _ hf
          · by_cases h30 : z29 = 0
            · refine go_it (t := 190) (f := 186) (L1 := [some (.ref 0), some (.int x1), some (.int x2), none, some (.int x4), some (.int x5), some (.int x6), some (.int x7), some (.long x8), none, some (.long x10), none, some (.int x12), some (.int x13), some (.int z29)]) (st1 := [.int x12]) (σ1 := q24) rfl h30 ?_
              refine go_n 1 (f := (191, [some (.ref 0), some (.int x1), some (.int x2), none, some (.int x4), some (.int x5), some (.int x6), some (.int x7), some (.long x8), none, some (.long x10), none, some (.int x12), some (.int x13), some (.int z29)], [.int 0, .int x12], q24)) rfl ?_
              refine go_e (L1 := [some (.ref 0), some (.int x1), some (.int x2), none, some (.int x4), some (.int x5), some (.int x6), some (.int x7), some (.long x8), none, some (.long x10), none, none, some (.int x13), none]) rfl rfl ?_
              simp only [if_pos h30] at hJ32
              first | exact hJ32 | (simp only [if_pos h30]; exact hJ32)
            · refine go_if (t := 190) (f := 186) (L1 := [some (.ref 0), some (.int x1), some (.int x2), none, some (.int x4), some (.int x5), some (.int x6), some (.int x7), some (.long x8), none, some (.long x10), none, some (.int x12), some (.int x13), some (.int z29)]) (st1 := [.int x12]) (σ1 := q24) rfl h30 ?_
              refine go_n 2 (f := (191, [some (.ref 0), some (.int x1), some (.int x2), none, some (.int x4), some (.int x5), some (.int x6), some (.int x7), some (.long x8), none, some (.long x10), none, some (.int x12), some (.int x13), some (.int z29)], [.int 1, .int x12], q24)) rfl ?_
              refine go_e (L1 := [some (.ref 0), some (.int x1), some (.int x2), none, some (.int x4), some (.int x5), some (.int x6), some (.int x7), some (.long x8), none, some (.long x10), none, none, some (.int x13), none]) rfl rfl ?_
              simp only [if_neg h30] at hJ32
              first | exact hJ32 | (simp only [if_neg h30]; exact hJ32)
        · by_cases h26 : x6 ≠ 0
          · refine go_it (t := 152) (f := 124) (L1 := [some (.ref 0), some (.int x1), some (.int x2), none, some (.int x4), some (.int x5), some (.int x6), some (.int x7), some (.long x8), none, some (.long x10), none, some (.int x12), some (.int x13), none]) (st1 := []) (σ1 := q24) rfl h26 ?_
            refine go_n 10 (f := (168, [some (.ref 0), some (.int x1), some (.int x2), none, some (.int x4), some (.int x5), some (.int x6), some (.int x7), some (.long x8), none, some (.long x10), none, some (.int x12), some (.int x13), none], [.long (x10 * (gi q24 0 44).toInt64), .long ((gl q24 0 45) * x7.toInt64)], q24)) rfl ?_
            refine go_n 1 (f := (169, [some (.ref 0), some (.int x1), some (.int x2), none, some (.int x4), some (.int x5), some (.int x6), some (.int x7), some (.long x8), none, some (.long x10), none, some (.int x12), some (.int x13), none], [.int (lg_cmp ((gl q24 0 45) * x7.toInt64) (x10 * (gi q24 0 44).toInt64))], q24)) rfl ?_
            by_cases h27 : (x10 * (gi q24 0 44).toInt64) ≤ ((gl q24 0 45) * x7.toInt64)
            · refine go_it (t := 176) (f := 172) (L1 := [some (.ref 0), some (.int x1), some (.int x2), none, some (.int x4), some (.int x5), some (.int x6), some (.int x7), some (.long x8), none, some (.long x10), none, some (.int x12), some (.int x13), none]) (st1 := []) (σ1 := q24) rfl ((lgc_ge ((gl q24 0 45) * x7.toInt64) (x10 * (gi q24 0 44).toInt64)).mpr h27) ?_
              refine go_n 1 (f := (177, [some (.ref 0), some (.int x1), some (.int x2), none, some (.int x4), some (.int x5), some (.int x6), some (.int x7), some (.long x8), none, some (.long x10), none, some (.int x12), some (.int x13), none], [.int 0], q24)) rfl ?_
              refine go_e (L1 := [some (.ref 0), some (.int x1), some (.int x2), none, some (.int x4), some (.int x5), some (.int x6), some (.int x7), some (.long x8), none, some (.long x10), none, some (.int x12), some (.int x13), none]) rfl rfl ?_
              simp only [if_pos h26, if_pos h27] at hJ33
              first | exact hJ33 | (simp only [if_pos h26, if_pos h27]; exact hJ33)
            · refine go_if (t := 176) (f := 172) (L1 := [some (.ref 0), some (.int x1), some (.int x2), none, some (.int x4), some (.int x5), some (.int x6), some (.int x7), some (.long x8), none, some (.long x10), none, some (.int x12), some (.int x13), none]) (st1 := []) (σ1 := q24) rfl (fun q => h27 ((lgc_ge ((gl q24 0 45) * x7.toInt64) (x10 * (gi q24 0 44).toInt64)).mp q)) ?_
              refine go_n 2 (f := (177, [some (.ref 0), some (.int x1), some (.int x2), none, some (.int x4), some (.int x5), some (.int x6), some (.int x7), some (.long x8), none, some (.long x10), none, some (.int x12), some (.int x13), none], [.int 1], q24)) rfl ?_
              refine go_e (L1 := [some (.ref 0), some (.int x1), some (.int x2), none, some (.int x4), some (.int x5), some (.int x6), some (.int x7), some (.long x8), none, some (.long x10), none, some (.int x12), some (.int x13), none]) rfl rfl ?_
              simp only [if_pos h26, if_neg h27] at hJ33
              first | exact hJ33 | (simp only [if_pos h26, if_neg h27]; exact hJ33)
          · refine go_if (t := 152) (f := 124) (L1 := [some (.ref 0), some (.int x1), some (.int x2), none, some (.int x4), some (.int x5), some (.int x6), some (.int x7), some (.long x8), none, some (.long x10), none, some (.int x12), some (.int x13), none]) (st1 := []) (σ1 := q24) rfl h26 ?_
            refine go_n 10 (f := (140, [some (.ref 0), some (.int x1), some (.int x2), none, some (.int x4), some (.int x5), some (.int x6), some (.int x7), some (.long x8), none, some (.long x10), none, some (.int x12), some (.int x13), none], [.long (x8 * (gi q24 0 44).toInt64), .long ((gl q24 0 46) * x7.toInt64)], q24)) rfl ?_
            refine go_n 1 (f := (141, [some (.ref 0), some (.int x1), some (.int x2), none, some (.int x4), some (.int x5), some (.int x6), some (.int x7), some (.long x8), none, some (.long x10), none, some (.int x12), some (.int x13), none], [.int (lg_cmp ((gl q24 0 46) * x7.toInt64) (x8 * (gi q24 0 44).toInt64))], q24)) rfl ?_
            by_cases h28 : (x8 * (gi q24 0 44).toInt64) ≤ ((gl q24 0 46) * x7.toInt64)
            · refine go_it (t := 148) (f := 144) (L1 := [some (.ref 0), some (.int x1), some (.int x2), none, some (.int x4), some (.int x5), some (.int x6), some (.int x7), some (.long x8), none, some (.long x10), none, some (.int x12), some (.int x13), none]) (st1 := []) (σ1 := q24) rfl ((lgc_ge ((gl q24 0 46) * x7.toInt64) (x8 * (gi q24 0 44).toInt64)).mpr h28) ?_
              refine go_n 2 (f := (177, [some (.ref 0), some (.int x1), some (.int x2), none, some (.int x4), some (.int x5), some (.int x6), some (.int x7), some (.long x8), none, some (.long x10), none, some (.int x12), some (.int x13), none], [.int 0], q24)) rfl ?_
              refine go_e (L1 := [some (.ref 0), some (.int x1), some (.int x2), none, some (.int x4), some (.int x5), some (.int x6), some (.int x7), some (.long x8), none, some (.long x10), none, some (.int x12), some (.int x13), none]) rfl rfl ?_
              simp only [if_neg h26, if_pos h28] at hJ33
              first | exact hJ33 | (simp only [if_neg h26, if_pos h28]; exact hJ33)
            · refine go_if (t := 148) (f := 144) (L1 := [some (.ref 0), some (.int x1), some (.int x2), none, some (.int x4), some (.int x5), some (.int x6), some (.int x7), some (.long x8), none, some (.long x10), none, some (.int x12), some (.int x13), none]) (st1 := []) (σ1 := q24) rfl (fun q => h28 ((lgc_ge ((gl q24 0 46) * x7.toInt64) (x8 * (gi q24 0 44).toInt64)).mp q)) ?_
              refine go_n 2 (f := (177, [some (.ref 0), some (.int x1), some (.int x2), none, some (.int x4), some (.int x5), some (.int x6), some (.int x7), some (.long x8), none, some (.long x10), none, some (.int x12), some (.int x13), none], [.int 1], q24)) rfl ?_
              refine go_e (L1 := [some (.ref 0), some (.int x1), some (.int x2), none, some (.int x4), some (.int x5), some (.int x6), some (.int x7), some (.long x8), none, some (.long x10), none, some (.int x12), some (.int x13), none]) rfl rfl ?_
              simp only [if_neg h26, if_neg h28] at hJ33
              first | exact hJ33 | (simp only [if_neg h26, if_neg h28]; exact hJ33)
      · rw [if_neg h23] at hf
        refine go_if (t := 110) (f := 107) (L1 := [some (.ref 0), some (.int x1), some (.int x2), none, some (.int x4), some (.int x5), some (.int x6), some (.int x7), some (.long x8), none, some (.long x10), none, some (.int x12), some (.int x13), none]) (st1 := []) (σ1 := σ) rfl h23 ?_
        refine go_n 1 (f := (194, [some (.ref 0), some (.int x1), some (.int x2), none, some (.int x4), some (.int x5), some (.int x6), some (.int x7), some (.long x8), none, some (.long x10), none, some (.int x12), some (.int x13), none], [], σ)) rfl ?_
        exact fX0_rank_J194_ok _ _ _ _ _ _ _ _ _ _ _ _ hrec94 _ hf
def fX0_rank (x1 : Int32) (x2 : Int32) (x3 : Int32) (x4 : Int32) (x5 : Int32) (x6 : Int32) (σ : Sg) : Option (Int32 × Sg) :=
  (fX0_isPlace x1 σ).bind fun q1 => if q1 = 0 then some ((-1), σ) else (fX0_isYear x3).bind fun q4 => if q4 = 0 then some ((-1), σ) else (fX0_isYear x4).bind fun q7 => if q7 = 0 then some ((-1), σ) else (fX0_in x2 x3 x4).bind fun q10 => if q10 = 0 then some ((-1), σ) else if 39 < (x4 - x3) then some ((-1), σ) else (fX0_isDesk x5).bind fun q14 => if q14 = 0 then some ((-1), σ) else (fX0_in x6 0 1).bind fun q17 => if q17 ≠ 0 then (fX0_winters x1 x2 x5 σ).bind fun q20 => lp (fX0_rank_L94 x1 x2 x4 x5 x6 (gi q20 0 44) (gl q20 0 45) (gl q20 0 46) ) N0 (0, x3, q20) else some ((-1), σ)
set_option maxHeartbeats 1500000 in
theorem fX0_rank_ok (x1 : Int32) (x2 : Int32) (x3 : Int32) (x4 : Int32) (x5 : Int32) (x6 : Int32) (σ : Sg) (r : (Int32 × Sg)) (hf : fX0_rank x1 x2 x3 x4 x5 x6 σ = some r) : Cl true 3250 5204 [.ref 0, .int x1, .int x2, .int x3, .int x4, .int x5, .int x6] σ (.inl (some (.int (r).1)), (r).2) := by
  refine ⟨iX0_rank, rfl, Nat.le_of_ble_eq_true rfl, Nat.le_of_ble_eq_true rfl, ?_⟩
  show Go true 3250 iX0_rank (0, [some (.ref 0), some (.int x1), some (.int x2), some (.int x3), some (.int x4), some (.int x5), some (.int x6), none, none, none, none, none, none, none, none], [], σ) (.inl (some (.int (r).1)), (r).2)
  unfold fX0_rank at hf
  refine go_n 2 (f := (2, [some (.ref 0), some (.int x1), some (.int x2), some (.int x3), some (.int x4), some (.int x5), some (.int x6), none, none, none, none, none, none, none, none], [.int x1, .ref 0], σ)) rfl ?_
  obtain ⟨q1, h2, hf⟩ := bnd hf
  refine go_c (mid := 5139) (args := [.ref 0, .int x1]) (pc := 5) (L := [some (.ref 0), some (.int x1), some (.int x2), some (.int x3), some (.int x4), some (.int x5), some (.int x6), none, none, none, none, none, none, none, none]) (st := []) (σ := σ) rfl ((fX0_isPlace_ok _ _ q1 h2).deep (Nat.le_of_ble_eq_true rfl)) ?_
  by_cases h3 : q1 = 0
  · rw [if_pos h3] at hf
    refine go_it (t := 60) (f := 8) (L1 := [some (.ref 0), some (.int x1), some (.int x2), some (.int x3), some (.int x4), some (.int x5), some (.int x6), none, none, none, none, none, none, none, none]) (st1 := []) (σ1 := σ) rfl h3 ?_
    refine go_e (L1 := [none, none, none, none, none, none, none, none, none, none, none, none, none, none, none]) rfl rfl ?_
    refine go_n 1 (f := (61, [none, none, none, none, none, none, none, none, none, none, none, none, none, none, none], [.int (-1)], σ)) rfl ?_
    cases hf
    exact go_r rfl
  · rw [if_neg h3] at hf
    refine go_if (t := 60) (f := 8) (L1 := [some (.ref 0), some (.int x1), some (.int x2), some (.int x3), some (.int x4), some (.int x5), some (.int x6), none, none, none, none, none, none, none, none]) (st1 := []) (σ1 := σ) rfl h3 ?_
    refine go_n 1 (f := (9, [some (.ref 0), some (.int x1), some (.int x2), some (.int x3), some (.int x4), some (.int x5), some (.int x6), none, none, none, none, none, none, none, none], [.int x3], σ)) rfl ?_
    obtain ⟨q4, h5, hf⟩ := bnd hf
    refine go_c (mid := 5202) (args := [.int x3]) (pc := 12) (L := [some (.ref 0), some (.int x1), some (.int x2), some (.int x3), some (.int x4), some (.int x5), some (.int x6), none, none, none, none, none, none, none, none]) (st := []) (σ := σ) rfl ((fX0_isYear_ok _ _ q4 h5).deep (Nat.le_of_ble_eq_true rfl)) ?_
    by_cases h6 : q4 = 0
    · rw [if_pos h6] at hf
      refine go_it (t := 60) (f := 15) (L1 := [some (.ref 0), some (.int x1), some (.int x2), some (.int x3), some (.int x4), some (.int x5), some (.int x6), none, none, none, none, none, none, none, none]) (st1 := []) (σ1 := σ) rfl h6 ?_
      refine go_e (L1 := [none, none, none, none, none, none, none, none, none, none, none, none, none, none, none]) rfl rfl ?_
      refine go_n 1 (f := (61, [none, none, none, none, none, none, none, none, none, none, none, none, none, none, none], [.int (-1)], σ)) rfl ?_
      cases hf
      exact go_r rfl
    · rw [if_neg h6] at hf
      refine go_if (t := 60) (f := 15) (L1 := [some (.ref 0), some (.int x1), some (.int x2), some (.int x3), some (.int x4), some (.int x5), some (.int x6), none, none, none, none, none, none, none, none]) (st1 := []) (σ1 := σ) rfl h6 ?_
      refine go_n 1 (f := (17, [some (.ref 0), some (.int x1), some (.int x2), some (.int x3), some (.int x4), some (.int x5), some (.int x6), none, none, none, none, none, none, none, none], [.int x4], σ)) rfl ?_
      obtain ⟨q7, h8, hf⟩ := bnd hf
      refine go_c (mid := 5202) (args := [.int x4]) (pc := 20) (L := [some (.ref 0), some (.int x1), some (.int x2), some (.int x3), some (.int x4), some (.int x5), some (.int x6), none, none, none, none, none, none, none, none]) (st := []) (σ := σ) rfl ((fX0_isYear_ok _ _ q7 h8).deep (Nat.le_of_ble_eq_true rfl)) ?_
      by_cases h9 : q7 = 0
      · rw [if_pos h9] at hf
        refine go_it (t := 60) (f := 23) (L1 := [some (.ref 0), some (.int x1), some (.int x2), some (.int x3), some (.int x4), some (.int x5), some (.int x6), none, none, none, none, none, none, none, none]) (st1 := []) (σ1 := σ) rfl h9 ?_
        refine go_e (L1 := [none, none, none, none, none, none, none, none, none, none, none, none, none, none, none]) rfl rfl ?_
        refine go_n 1 (f := (61, [none, none, none, none, none, none, none, none, none, none, none, none, none, none, none], [.int (-1)], σ)) rfl ?_
        cases hf
        exact go_r rfl
      · rw [if_neg h9] at hf
        refine go_if (t := 60) (f := 23) (L1 := [some (.ref 0), some (.int x1), some (.int x2), some (.int x3), some (.int x4), some (.int x5), some (.int x6), none, none, none, none, none, none, none, none]) (st1 := []) (σ1 := σ) rfl h9 ?_
        refine go_n 3 (f := (27, [some (.ref 0), some (.int x1), some (.int x2), some (.int x3), some (.int x4), some (.int x5), some (.int x6), none, none, none, none, none, none, none, none], [.int x4, .int x3, .int x2], σ)) rfl ?_
        obtain ⟨q10, h11, hf⟩ := bnd hf
        refine go_c (mid := 5122) (args := [.int x2, .int x3, .int x4]) (pc := 30) (L := [some (.ref 0), some (.int x1), some (.int x2), some (.int x3), some (.int x4), some (.int x5), some (.int x6), none, none, none, none, none, none, none, none]) (st := []) (σ := σ) rfl ((fX0_in_ok _ _ _ _ q10 h11).deep (Nat.le_of_ble_eq_true rfl)) ?_
        by_cases h12 : q10 = 0
        · rw [if_pos h12] at hf
          refine go_it (t := 60) (f := 33) (L1 := [some (.ref 0), some (.int x1), some (.int x2), some (.int x3), some (.int x4), some (.int x5), some (.int x6), none, none, none, none, none, none, none, none]) (st1 := []) (σ1 := σ) rfl h12 ?_
          refine go_e (L1 := [none, none, none, none, none, none, none, none, none, none, none, none, none, none, none]) rfl rfl ?_
          refine go_n 1 (f := (61, [none, none, none, none, none, none, none, none, none, none, none, none, none, none, none], [.int (-1)], σ)) rfl ?_
          cases hf
          exact go_r rfl
        · rw [if_neg h12] at hf
          refine go_if (t := 60) (f := 33) (L1 := [some (.ref 0), some (.int x1), some (.int x2), some (.int x3), some (.int x4), some (.int x5), some (.int x6), none, none, none, none, none, none, none, none]) (st1 := []) (σ1 := σ) rfl h12 ?_
          refine go_n 4 (f := (39, [some (.ref 0), some (.int x1), some (.int x2), some (.int x3), some (.int x4), some (.int x5), some (.int x6), none, none, none, none, none, none, none, none], [.int 39, .int (x4 - x3)], σ)) rfl ?_
          by_cases h13 : 39 < (x4 - x3)
          · rw [if_pos h13] at hf
            refine go_it (t := 60) (f := 42) (L1 := [some (.ref 0), some (.int x1), some (.int x2), some (.int x3), some (.int x4), some (.int x5), some (.int x6), none, none, none, none, none, none, none, none]) (st1 := []) (σ1 := σ) rfl h13 ?_
            refine go_e (L1 := [none, none, none, none, none, none, none, none, none, none, none, none, none, none, none]) rfl rfl ?_
            refine go_n 1 (f := (61, [none, none, none, none, none, none, none, none, none, none, none, none, none, none, none], [.int (-1)], σ)) rfl ?_
            cases hf
            exact go_r rfl
          · rw [if_neg h13] at hf
            refine go_if (t := 60) (f := 42) (L1 := [some (.ref 0), some (.int x1), some (.int x2), some (.int x3), some (.int x4), some (.int x5), some (.int x6), none, none, none, none, none, none, none, none]) (st1 := []) (σ1 := σ) rfl h13 ?_
            refine go_n 1 (f := (44, [some (.ref 0), some (.int x1), some (.int x2), some (.int x3), some (.int x4), some (.int x5), some (.int x6), none, none, none, none, none, none, none, none], [.int x5], σ)) rfl ?_
            obtain ⟨q14, h15, hf⟩ := bnd hf
            refine go_c (mid := 5147) (args := [.int x5]) (pc := 47) (L := [some (.ref 0), some (.int x1), some (.int x2), some (.int x3), some (.int x4), some (.int x5), some (.int x6), none, none, none, none, none, none, none, none]) (st := []) (σ := σ) rfl ((fX0_isDesk_ok _ _ q14 h15).deep (Nat.le_of_ble_eq_true rfl)) ?_
            by_cases h16 : q14 = 0
            · rw [if_pos h16] at hf
              refine go_it (t := 60) (f := 50) (L1 := [some (.ref 0), some (.int x1), some (.int x2), some (.int x3), some (.int x4), some (.int x5), some (.int x6), none, none, none, none, none, none, none, none]) (st1 := []) (σ1 := σ) rfl h16 ?_
              refine go_e (L1 := [none, none, none, none, none, none, none, none, none, none, none, none, none, none, none]) rfl rfl ?_
              refine go_n 1 (f := (61, [none, none, none, none, none, none, none, none, none, none, none, none, none, none, none], [.int (-1)], σ)) rfl ?_
              cases hf
              exact go_r rfl
            · rw [if_neg h16] at hf
              refine go_if (t := 60) (f := 50) (L1 := [some (.ref 0), some (.int x1), some (.int x2), some (.int x3), some (.int x4), some (.int x5), some (.int x6), none, none, none, none, none, none, none, none]) (st1 := []) (σ1 := σ) rfl h16 ?_
              refine go_n 3 (f := (54, [some (.ref 0), some (.int x1), some (.int x2), some (.int x3), some (.int x4), some (.int x5), some (.int x6), none, none, none, none, none, none, none, none], [.int 1, .int 0, .int x6], σ)) rfl ?_
              obtain ⟨q17, h18, hf⟩ := bnd hf
              refine go_c (mid := 5122) (args := [.int x6, .int 0, .int 1]) (pc := 57) (L := [some (.ref 0), some (.int x1), some (.int x2), some (.int x3), some (.int x4), some (.int x5), some (.int x6), none, none, none, none, none, none, none, none]) (st := []) (σ := σ) rfl ((fX0_in_ok _ _ _ _ q17 h18).deep (Nat.le_of_ble_eq_true rfl)) ?_
              by_cases h19 : q17 ≠ 0
              · rw [if_pos h19] at hf
                refine go_it (t := 62) (f := 60) (L1 := [some (.ref 0), some (.int x1), some (.int x2), some (.int x3), some (.int x4), some (.int x5), some (.int x6), none, none, none, none, none, none, none, none]) (st1 := []) (σ1 := σ) rfl h19 ?_
                refine go_n 4 (f := (67, [some (.ref 0), some (.int x1), some (.int x2), some (.int x3), some (.int x4), some (.int x5), some (.int x6), none, none, none, none, none, none, none, none], [.int x5, .int x2, .int x1, .ref 0], σ)) rfl ?_
                obtain ⟨q20, h21, hf⟩ := bnd hf
                refine go_c (mid := 5203) (args := [.ref 0, .int x1, .int x2, .int x5]) (pc := 70) (L := [some (.ref 0), some (.int x1), some (.int x2), some (.int x3), some (.int x4), some (.int x5), some (.int x6), none, none, none, none, none, none, none, none]) (st := []) (σ := σ) rfl ((fX0_winters_ok _ _ _ _ q20 h21).deep (Nat.le_of_ble_eq_true rfl)) ?_
                refine go_n 6 (f := (82, [some (.ref 0), some (.int x1), some (.int x2), some (.int x3), some (.int x4), some (.int x5), some (.int x6), some (.int (gi q20 0 44)), some (.long (gl q20 0 45)), none, none, none, none, none, none], [], q20)) rfl ?_
                refine go_n 5 (f := (91, [some (.ref 0), some (.int x1), some (.int x2), some (.int x3), some (.int x4), some (.int x5), some (.int x6), some (.int (gi q20 0 44)), some (.long (gl q20 0 45)), none, some (.long (gl q20 0 46)), none, some (.int 0), none, none], [], q20)) rfl ?_
                refine go_n 2 (f := (94, [some (.ref 0), some (.int x1), some (.int x2), some (.int x3), some (.int x4), some (.int x5), some (.int x6), some (.int (gi q20 0 44)), some (.long (gl q20 0 45)), none, some (.long (gl q20 0 46)), none, some (.int 0), some (.int x3), none], [], q20)) rfl ?_
                refine go_e (L1 := [some (.ref 0), some (.int x1), some (.int x2), none, some (.int x4), some (.int x5), some (.int x6), some (.int (gi q20 0 44)), some (.long (gl q20 0 45)), none, some (.long (gl q20 0 46)), none, some (.int 0), some (.int x3), none]) rfl rfl ?_
                exact fX0_rank_L94_ok _ _ _ _ _ _ _ _   N0 _ _ _ _ hf
              · rw [if_neg h19] at hf
                refine go_if (t := 62) (f := 60) (L1 := [some (.ref 0), some (.int x1), some (.int x2), some (.int x3), some (.int x4), some (.int x5), some (.int x6), none, none, none, none, none, none, none, none]) (st1 := []) (σ1 := σ) rfl h19 ?_
                refine go_e (L1 := [none, none, none, none, none, none, none, none, none, none, none, none, none, none, none]) rfl rfl ?_
                refine go_n 1 (f := (61, [none, none, none, none, none, none, none, none, none, none, none, none, none, none, none], [.int (-1)], σ)) rfl ?_
                cases hf
                exact go_r rfl
/-! OldWeather.often(IIIII)I -/
def fX0_often_L113 (x1 : Int32) (x3 : Int32) (x4 : Int32) (x5 : Int32) (x8 : Int32)  (rec113 : (Int32 × Int32 × Sg) → Option (Int32 × Sg)) (s : Int32 × Int32 × Sg) : Option (Int32 × Sg) :=
  match s with
  | (x9, x10, σ) => if x8 ≤ x10 then some (x9, σ) else (fX0_joins x1 x10 x4 (-1) 0 σ).bind fun q24 => ((fun (z27 : Int32) => ((fun (z29 : Int32) => rec113 ((x9 + z29), (x10 + 1), q24)) ((if x3 ≤ z27 then 0 else 1) : Int32))) (if x5 ≠ 0 then (gi q24 0 22) else (gi q24 0 23)))
set_option maxHeartbeats 1500000 in
theorem fX0_often_L113_ok (x1 : Int32) (x3 : Int32) (x4 : Int32) (x5 : Int32) (x8 : Int32)   : ∀ (n : Nat) (x9 : Int32) (x10 : Int32) (σ : Sg) (r : (Int32 × Sg)), lp (fX0_often_L113 x1 x3 x4 x5 x8 ) n (x9, x10, σ) = some r → Go true 3249 iX0_often (113, [some (.ref 0), some (.int x1), none, some (.int x3), some (.int x4), some (.int x5), none, none, some (.int x8), some (.int x9), some (.int x10)], [], σ) (.inl (some (.int (r).1)), (r).2) := by
  intro n
  induction n with
  | zero => intro x9 x10 σ r hf; cases hf
  | succ n ih =>
    intro x9 x10 σ r hf
    have hf : fX0_often_L113 x1 x3 x4 x5 x8  (lp (fX0_often_L113 x1 x3 x4 x5 x8 ) n) (x9, x10, σ) = some r := hf
    have hrec113 := ih
    generalize lp (fX0_often_L113 x1 x3 x4 x5 x8 ) n = rec113 at hf hrec113
    unfold fX0_often_L113 at hf
    dsimp only at hf
    refine go_n 2 (f := (117, [some (.ref 0), some (.int x1), none, some (.int x3), some (.int x4), some (.int x5), none, none, some (.int x8), some (.int x9), some (.int x10)], [.int x8, .int x10], σ)) rfl ?_
    by_cases h23 : x8 ≤ x10
    · rw [if_pos h23] at hf
      refine go_it (t := 167) (f := 120) (L1 := [some (.ref 0), some (.int x1), none, some (.int x3), some (.int x4), some (.int x5), none, none, some (.int x8), some (.int x9), some (.int x10)]) (st1 := []) (σ1 := σ) rfl h23 ?_
      refine go_n 1 (f := (169, [some (.ref 0), some (.int x1), none, some (.int x3), some (.int x4), some (.int x5), none, none, some (.int x8), some (.int x9), some (.int x10)], [.int x9], σ)) rfl ?_
      cases hf
      exact go_r rfl
    · rw [if_neg h23] at hf
      refine go_if (t := 167) (f := 120) (L1 := [some (.ref 0), some (.int x1), none, some (.int x3), some (.int x4), some (.int x5), none, none, some (.int x8), some (.int x9), some (.int x10)]) (st1 := []) (σ1 := σ) rfl h23 ?_
      refine go_n 6 (f := (128, [some (.ref 0), some (.int x1), none, some (.int x3), some (.int x4), some (.int x5), none, none, some (.int x8), some (.int x9), some (.int x10)], [.int 0, .int (-1), .int x4, .int x10, .int x1, .ref 0], σ)) rfl ?_
      obtain ⟨q24, h25, hf⟩ := bnd hf
      refine go_c (mid := 5183) (args := [.ref 0, .int x1, .int x10, .int x4, .int (-1), .int 0]) (pc := 131) (L := [some (.ref 0), some (.int x1), none, some (.int x3), some (.int x4), some (.int x5), none, none, some (.int x8), some (.int x9), some (.int x10)]) (st := []) (σ := σ) rfl ((fX0_joins_ok _ _ _ _ _ _ q24 h25).deep (Nat.le_of_ble_eq_true rfl)) ?_
      refine go_n 2 (f := (135, [some (.ref 0), some (.int x1), none, some (.int x3), some (.int x4), some (.int x5), none, none, some (.int x8), some (.int x9), some (.int x10)], [.int x5, .int x9], q24)) rfl ?_
      refine go_m (f := (149, [some (.ref 0), some (.int x1), none, some (.int x3), some (.int x4), some (.int x5), none, none, some (.int x8), none, some (.int x10)], [.int (if x5 ≠ 0 then (gi q24 0 22) else (gi q24 0 23)), .int x9], q24)) ?_ (fun hJ31 => ?_)
      · generalize hz27 : (if x5 ≠ 0 then (gi q24 0 22) else (gi q24 0 23)) = z27 at hf ⊢
        try dsimp only at hf
        refine go_n 1 (f := (150, [some (.ref 0), some (.int x1), none, some (.int x3), some (.int x4), some (.int x5), none, none, some (.int x8), none, some (.int x10)], [.int x3, .int z27, .int x9], q24)) rfl ?_
        refine go_m (f := (158, [some (.ref 0), some (.int x1), none, some (.int x3), some (.int x4), some (.int x5), none, none, some (.int x8), none, some (.int x10)], [.int ((if x3 ≤ z27 then 0 else 1) : Int32), .int x9], q24)) ?_ (fun hJ30 => ?_)
        · generalize hz29 : ((if x3 ≤ z27 then 0 else 1) : Int32) = z29 at hf ⊢
          have oz29 : am_ok 3 z29 = true := hz29 ▸ (okb rfl rfl)
          try dsimp only at hf
          refine go_n 3 (f := (164, [some (.ref 0), some (.int x1), none, some (.int x3), some (.int x4), some (.int x5), none, none, some (.int x8), some (.int (x9 + z29)), some (.int (x10 + 1))], [], q24)) rfl ?_
          refine go_n 1 (f := (113, [some (.ref 0), some (.int x1), none, some (.int x3), some (.int x4), some (.int x5), none, none, some (.int x8), some (.int (x9 + z29)), some (.int (x10 + 1))], [], q24)) rfl ?_
          exact hrec113 _ _ _ _ hf
        · by_cases h28 : x3 ≤ z27
          · refine go_it (t := 157) (f := 153) (L1 := [some (.ref 0), some (.int x1), none, some (.int x3), some (.int x4), some (.int x5), none, none, some (.int x8), none, some (.int x10)]) (st1 := [.int x9]) (σ1 := q24) rfl h28 ?_
            refine go_n 1 (f := (158, [some (.ref 0), some (.int x1), none, some (.int x3), some (.int x4), some (.int x5), none, none, some (.int x8), none, some (.int x10)], [.int 0, .int x9], q24)) rfl ?_
            refine go_e (L1 := [some (.ref 0), some (.int x1), none, some (.int x3), some (.int x4), some (.int x5), none, none, some (.int x8), none, some (.int x10)]) rfl rfl ?_
            simp only [if_pos h28] at hJ30
            first | exact hJ30 | (simp only [if_pos h28]; exact hJ30)
          · refine go_if (t := 157) (f := 153) (L1 := [some (.ref 0), some (.int x1), none, some (.int x3), some (.int x4), some (.int x5), none, none, some (.int x8), none, some (.int x10)]) (st1 := [.int x9]) (σ1 := q24) rfl h28 ?_
            refine go_n 2 (f := (158, [some (.ref 0), some (.int x1), none, some (.int x3), some (.int x4), some (.int x5), none, none, some (.int x8), none, some (.int x10)], [.int 1, .int x9], q24)) rfl ?_
            refine go_e (L1 := [some (.ref 0), some (.int x1), none, some (.int x3), some (.int x4), some (.int x5), none, none, some (.int x8), none, some (.int x10)]) rfl rfl ?_
            simp only [if_neg h28] at hJ30
            first | exact hJ30 | (simp only [if_neg h28]; exact hJ30)
      · by_cases h26 : x5 ≠ 0
        · refine go_it (t := 145) (f := 138) (L1 := [some (.ref 0), some (.int x1), none, some (.int x3), some (.int x4), some (.int x5), none, none, some (.int x8), some (.int x9), some (.int x10)]) (st1 := [.int x9]) (σ1 := q24) rfl h26 ?_
          refine go_n 2 (f := (149, [some (.ref 0), some (.int x1), none, some (.int x3), some (.int x4), some (.int x5), none, none, some (.int x8), some (.int x9), some (.int x10)], [.int (gi q24 0 22), .int x9], q24)) rfl ?_
          refine go_e (L1 := [some (.ref 0), some (.int x1), none, some (.int x3), some (.int x4), some (.int x5), none, none, some (.int x8), none, some (.int x10)]) rfl rfl ?_
          simp only [if_pos h26] at hJ31
          first | exact hJ31 | (simp only [if_pos h26]; exact hJ31)
        · refine go_if (t := 145) (f := 138) (L1 := [some (.ref 0), some (.int x1), none, some (.int x3), some (.int x4), some (.int x5), none, none, some (.int x8), some (.int x9), some (.int x10)]) (st1 := [.int x9]) (σ1 := q24) rfl h26 ?_
          refine go_n 3 (f := (149, [some (.ref 0), some (.int x1), none, some (.int x3), some (.int x4), some (.int x5), none, none, some (.int x8), some (.int x9), some (.int x10)], [.int (gi q24 0 23), .int x9], q24)) rfl ?_
          refine go_e (L1 := [some (.ref 0), some (.int x1), none, some (.int x3), some (.int x4), some (.int x5), none, none, some (.int x8), none, some (.int x10)]) rfl rfl ?_
          simp only [if_neg h26] at hJ31
          first | exact hJ31 | (simp only [if_neg h26]; exact hJ31)
def fX0_often_J104 (x1 : Int32) (x3 : Int32) (x4 : Int32) (x5 : Int32) (x7 : Int32) (s0 : Int32)  (σ : Sg) : Option (Int32 × Sg) :=
  lp (fX0_often_L113 x1 x3 x4 x5 s0 ) N0 (0, x7, σ)
set_option maxHeartbeats 1500000 in
theorem fX0_often_J104_ok (x1 : Int32) (x3 : Int32) (x4 : Int32) (x5 : Int32) (x7 : Int32) (s0 : Int32)  (σ : Sg)  (r : (Int32 × Sg)) (hf : fX0_often_J104 x1 x3 x4 x5 x7 s0  σ = some r) : Go true 3249 iX0_often (104, [some (.ref 0), some (.int x1), none, some (.int x3), some (.int x4), some (.int x5), none, some (.int x7), none, none, none], [.int s0], σ) (.inl (some (.int (r).1)), (r).2) := by
  unfold fX0_often_J104 at hf
  refine go_n 3 (f := (109, [some (.ref 0), some (.int x1), none, some (.int x3), some (.int x4), some (.int x5), none, some (.int x7), some (.int s0), some (.int 0), none], [], σ)) rfl ?_
  refine go_n 2 (f := (113, [some (.ref 0), some (.int x1), none, some (.int x3), some (.int x4), some (.int x5), none, some (.int x7), some (.int s0), some (.int 0), some (.int x7)], [], σ)) rfl ?_
  refine go_e (L1 := [some (.ref 0), some (.int x1), none, some (.int x3), some (.int x4), some (.int x5), none, none, some (.int s0), some (.int 0), some (.int x7)]) rfl rfl ?_
  exact fX0_often_L113_ok _ _ _ _ _   N0 _ _ _ _ hf
def fX0_often (x1 : Int32) (x2 : Int32) (x3 : Int32) (x4 : Int32) (x5 : Int32) (σ : Sg) : Option (Int32 × Sg) :=
  (fX0_isPlace x1 σ).bind fun q1 => if q1 = 0 then some ((-1), σ) else (fX0_isYear x2).bind fun q4 => if q4 = 0 then some ((-1), σ) else (fX0_in x3 (-600) 600).bind fun q7 => if q7 = 0 then some ((-1), σ) else (fX0_isDesk x4).bind fun q10 => if q10 = 0 then some ((-1), σ) else (fX0_in x5 0 1).bind fun q13 => if q13 ≠ 0 then (fX2_looks x4 σ).bind fun q16 => (fX0_dayAt (x2 - 1) 12 1 1).bind fun q18 => if (gi q16 28 5) ≠ 12 then (fX0_dayAt x2 (gi q16 28 5) 1 1).bind fun q21 => fX0_often_J104 x1 x3 x4 x5 q18 q21  q16 else (fX0_dayAt x2 12 1 1).bind fun q32 => fX0_often_J104 x1 x3 x4 x5 q18 q32  q16 else some ((-1), σ)
set_option maxHeartbeats 1500000 in
theorem fX0_often_ok (x1 : Int32) (x2 : Int32) (x3 : Int32) (x4 : Int32) (x5 : Int32) (σ : Sg) (r : (Int32 × Sg)) (hf : fX0_often x1 x2 x3 x4 x5 σ = some r) : Cl true 3249 5205 [.ref 0, .int x1, .int x2, .int x3, .int x4, .int x5] σ (.inl (some (.int (r).1)), (r).2) := by
  refine ⟨iX0_often, rfl, Nat.le_of_ble_eq_true rfl, Nat.le_of_ble_eq_true rfl, ?_⟩
  show Go true 3249 iX0_often (0, [some (.ref 0), some (.int x1), some (.int x2), some (.int x3), some (.int x4), some (.int x5), none, none, none, none, none], [], σ) (.inl (some (.int (r).1)), (r).2)
  unfold fX0_often at hf
  refine go_n 2 (f := (2, [some (.ref 0), some (.int x1), some (.int x2), some (.int x3), some (.int x4), some (.int x5), none, none, none, none, none], [.int x1, .ref 0], σ)) rfl ?_
  obtain ⟨q1, h2, hf⟩ := bnd hf
  refine go_c (mid := 5139) (args := [.ref 0, .int x1]) (pc := 5) (L := [some (.ref 0), some (.int x1), some (.int x2), some (.int x3), some (.int x4), some (.int x5), none, none, none, none, none]) (st := []) (σ := σ) rfl ((fX0_isPlace_ok _ _ q1 h2).deep (Nat.le_of_ble_eq_true rfl)) ?_
  by_cases h3 : q1 = 0
  · rw [if_pos h3] at hf
    refine go_it (t := 46) (f := 8) (L1 := [some (.ref 0), some (.int x1), some (.int x2), some (.int x3), some (.int x4), some (.int x5), none, none, none, none, none]) (st1 := []) (σ1 := σ) rfl h3 ?_
    refine go_e (L1 := [none, none, none, none, none, none, none, none, none, none, none]) rfl rfl ?_
    refine go_n 1 (f := (47, [none, none, none, none, none, none, none, none, none, none, none], [.int (-1)], σ)) rfl ?_
    cases hf
    exact go_r rfl
  · rw [if_neg h3] at hf
    refine go_if (t := 46) (f := 8) (L1 := [some (.ref 0), some (.int x1), some (.int x2), some (.int x3), some (.int x4), some (.int x5), none, none, none, none, none]) (st1 := []) (σ1 := σ) rfl h3 ?_
    refine go_n 1 (f := (9, [some (.ref 0), some (.int x1), some (.int x2), some (.int x3), some (.int x4), some (.int x5), none, none, none, none, none], [.int x2], σ)) rfl ?_
    obtain ⟨q4, h5, hf⟩ := bnd hf
    refine go_c (mid := 5202) (args := [.int x2]) (pc := 12) (L := [some (.ref 0), some (.int x1), some (.int x2), some (.int x3), some (.int x4), some (.int x5), none, none, none, none, none]) (st := []) (σ := σ) rfl ((fX0_isYear_ok _ _ q4 h5).deep (Nat.le_of_ble_eq_true rfl)) ?_
    by_cases h6 : q4 = 0
    · rw [if_pos h6] at hf
      refine go_it (t := 46) (f := 15) (L1 := [some (.ref 0), some (.int x1), some (.int x2), some (.int x3), some (.int x4), some (.int x5), none, none, none, none, none]) (st1 := []) (σ1 := σ) rfl h6 ?_
      refine go_e (L1 := [none, none, none, none, none, none, none, none, none, none, none]) rfl rfl ?_
      refine go_n 1 (f := (47, [none, none, none, none, none, none, none, none, none, none, none], [.int (-1)], σ)) rfl ?_
      cases hf
      exact go_r rfl
    · rw [if_neg h6] at hf
      refine go_if (t := 46) (f := 15) (L1 := [some (.ref 0), some (.int x1), some (.int x2), some (.int x3), some (.int x4), some (.int x5), none, none, none, none, none]) (st1 := []) (σ1 := σ) rfl h6 ?_
      refine go_n 3 (f := (22, [some (.ref 0), some (.int x1), some (.int x2), some (.int x3), some (.int x4), some (.int x5), none, none, none, none, none], [.int 600, .int (-600), .int x3], σ)) rfl ?_
      obtain ⟨q7, h8, hf⟩ := bnd hf
      refine go_c (mid := 5122) (args := [.int x3, .int (-600), .int 600]) (pc := 25) (L := [some (.ref 0), some (.int x1), some (.int x2), some (.int x3), some (.int x4), some (.int x5), none, none, none, none, none]) (st := []) (σ := σ) rfl ((fX0_in_ok _ _ _ _ q7 h8).deep (Nat.le_of_ble_eq_true rfl)) ?_
      by_cases h9 : q7 = 0
      · rw [if_pos h9] at hf
        refine go_it (t := 46) (f := 28) (L1 := [some (.ref 0), some (.int x1), some (.int x2), some (.int x3), some (.int x4), some (.int x5), none, none, none, none, none]) (st1 := []) (σ1 := σ) rfl h9 ?_
        refine go_e (L1 := [none, none, none, none, none, none, none, none, none, none, none]) rfl rfl ?_
        refine go_n 1 (f := (47, [none, none, none, none, none, none, none, none, none, none, none], [.int (-1)], σ)) rfl ?_
        cases hf
        exact go_r rfl
      · rw [if_neg h9] at hf
        refine go_if (t := 46) (f := 28) (L1 := [some (.ref 0), some (.int x1), some (.int x2), some (.int x3), some (.int x4), some (.int x5), none, none, none, none, none]) (st1 := []) (σ1 := σ) rfl h9 ?_
        refine go_n 1 (f := (30, [some (.ref 0), some (.int x1), some (.int x2), some (.int x3), some (.int x4), some (.int x5), none, none, none, none, none], [.int x4], σ)) rfl ?_
        obtain ⟨q10, h11, hf⟩ := bnd hf
        refine go_c (mid := 5147) (args := [.int x4]) (pc := 33) (L := [some (.ref 0), some (.int x1), some (.int x2), some (.int x3), some (.int x4), some (.int x5), none, none, none, none, none]) (st := []) (σ := σ) rfl ((fX0_isDesk_ok _ _ q10 h11).deep (Nat.le_of_ble_eq_true rfl)) ?_
        by_cases h12 : q10 = 0
        · rw [if_pos h12] at hf
          refine go_it (t := 46) (f := 36) (L1 := [some (.ref 0), some (.int x1), some (.int x2), some (.int x3), some (.int x4), some (.int x5), none, none, none, none, none]) (st1 := []) (σ1 := σ) rfl h12 ?_
          refine go_e (L1 := [none, none, none, none, none, none, none, none, none, none, none]) rfl rfl ?_
          refine go_n 1 (f := (47, [none, none, none, none, none, none, none, none, none, none, none], [.int (-1)], σ)) rfl ?_
          cases hf
          exact go_r rfl
        · rw [if_neg h12] at hf
          refine go_if (t := 46) (f := 36) (L1 := [some (.ref 0), some (.int x1), some (.int x2), some (.int x3), some (.int x4), some (.int x5), none, none, none, none, none]) (st1 := []) (σ1 := σ) rfl h12 ?_
          refine go_n 3 (f := (40, [some (.ref 0), some (.int x1), some (.int x2), some (.int x3), some (.int x4), some (.int x5), none, none, none, none, none], [.int 1, .int 0, .int x5], σ)) rfl ?_
          obtain ⟨q13, h14, hf⟩ := bnd hf
          refine go_c (mid := 5122) (args := [.int x5, .int 0, .int 1]) (pc := 43) (L := [some (.ref 0), some (.int x1), some (.int x2), some (.int x3), some (.int x4), some (.int x5), none, none, none, none, none]) (st := []) (σ := σ) rfl ((fX0_in_ok _ _ _ _ q13 h14).deep (Nat.le_of_ble_eq_true rfl)) ?_
          by_cases h15 : q13 ≠ 0
          · rw [if_pos h15] at hf
            refine go_it (t := 48) (f := 46) (L1 := [some (.ref 0), some (.int x1), some (.int x2), some (.int x3), some (.int x4), some (.int x5), none, none, none, none, none]) (st1 := []) (σ1 := σ) rfl h15 ?_
            refine go_n 3 (f := (54, [some (.ref 0), some (.int x1), some (.int x2), some (.int x3), some (.int x4), some (.int x5), none, none, none, none, none], [.int x4, .ref 28], σ)) rfl ?_
            obtain ⟨q16, h17, hf⟩ := bnd hf
            refine go_c (mid := 8193) (args := [.ref 28, .int x4]) (pc := 57) (L := [some (.ref 0), some (.int x1), some (.int x2), some (.int x3), some (.int x4), some (.int x5), none, none, none, none, none]) (st := []) (σ := σ) rfl ((fX2_looks_ok _ _ q16 h17).deep (Nat.le_of_ble_eq_true rfl)) ?_
            refine go_n 10 (f := (73, [some (.ref 0), some (.int x1), some (.int x2), some (.int x3), some (.int x4), some (.int x5), some (.int (gi q16 28 5)), none, none, none, none], [.int 1, .int 1, .int 12, .int (x2 - 1)], q16)) rfl ?_
            obtain ⟨q18, h19, hf⟩ := bnd hf
            refine go_c (mid := 5126) (args := [.int (x2 - 1), .int 12, .int 1, .int 1]) (pc := 76) (L := [some (.ref 0), some (.int x1), some (.int x2), some (.int x3), some (.int x4), some (.int x5), some (.int (gi q16 28 5)), none, none, none, none]) (st := []) (σ := q16) rfl ((fX0_dayAt_ok _ _ _ _ _ q18 h19).deep (Nat.le_of_ble_eq_true rfl)) ?_
            refine go_n 3 (f := (82, [some (.ref 0), some (.int x1), some (.int x2), some (.int x3), some (.int x4), some (.int x5), some (.int (gi q16 28 5)), some (.int q18), none, none, none], [.int 12, .int (gi q16 28 5)], q16)) rfl ?_
            by_cases h20 : (gi q16 28 5) ≠ 12
            · rw [if_pos h20] at hf
              refine go_it (t := 96) (f := 85) (L1 := [some (.ref 0), some (.int x1), some (.int x2), some (.int x3), some (.int x4), some (.int x5), some (.int (gi q16 28 5)), some (.int q18), none, none, none]) (st1 := []) (σ1 := q16) rfl h20 ?_
              refine go_n 4 (f := (101, [some (.ref 0), some (.int x1), some (.int x2), some (.int x3), some (.int x4), some (.int x5), some (.int (gi q16 28 5)), some (.int q18), none, none, none], [.int 1, .int 1, .int (gi q16 28 5), .int x2], q16)) rfl ?_
              obtain ⟨q21, h22, hf⟩ := bnd hf
              refine go_c (mid := 5126) (args := [.int x2, .int (gi q16 28 5), .int 1, .int 1]) (pc := 104) (L := [some (.ref 0), some (.int x1), some (.int x2), some (.int x3), some (.int x4), some (.int x5), some (.int (gi q16 28 5)), some (.int q18), none, none, none]) (st := []) (σ := q16) rfl ((fX0_dayAt_ok _ _ _ _ _ q21 h22).deep (Nat.le_of_ble_eq_true rfl)) ?_
              refine go_e (L1 := [some (.ref 0), some (.int x1), none, some (.int x3), some (.int x4), some (.int x5), none, some (.int q18), none, none, none]) rfl rfl ?_
              exact fX0_often_J104_ok _ _ _ _ _ _  _  _ hf
            · rw [if_neg h20] at hf
              refine go_if (t := 96) (f := 85) (L1 := [some (.ref 0), some (.int x1), some (.int x2), some (.int x3), some (.int x4), some (.int x5), some (.int (gi q16 28 5)), some (.int q18), none, none, none]) (st1 := []) (σ1 := q16) rfl h20 ?_
              refine go_n 4 (f := (90, [some (.ref 0), some (.int x1), some (.int x2), some (.int x3), some (.int x4), some (.int x5), some (.int (gi q16 28 5)), some (.int q18), none, none, none], [.int 1, .int 1, .int 12, .int x2], q16)) rfl ?_
              obtain ⟨q32, h33, hf⟩ := bnd hf
              refine go_c (mid := 5126) (args := [.int x2, .int 12, .int 1, .int 1]) (pc := 93) (L := [some (.ref 0), some (.int x1), some (.int x2), some (.int x3), some (.int x4), some (.int x5), some (.int (gi q16 28 5)), some (.int q18), none, none, none]) (st := []) (σ := q16) rfl ((fX0_dayAt_ok _ _ _ _ _ q32 h33).deep (Nat.le_of_ble_eq_true rfl)) ?_
              refine go_n 1 (f := (104, [some (.ref 0), some (.int x1), some (.int x2), some (.int x3), some (.int x4), some (.int x5), some (.int (gi q16 28 5)), some (.int q18), none, none, none], [.int q32], q16)) rfl ?_
              refine go_e (L1 := [some (.ref 0), some (.int x1), none, some (.int x3), some (.int x4), some (.int x5), none, some (.int q18), none, none, none]) rfl rfl ?_
              exact fX0_often_J104_ok _ _ _ _ _ _  _  _ hf
          · rw [if_neg h15] at hf
            refine go_if (t := 48) (f := 46) (L1 := [some (.ref 0), some (.int x1), some (.int x2), some (.int x3), some (.int x4), some (.int x5), none, none, none, none, none]) (st1 := []) (σ1 := σ) rfl h15 ?_
            refine go_e (L1 := [none, none, none, none, none, none, none, none, none, none, none]) rfl rfl ?_
            refine go_n 1 (f := (47, [none, none, none, none, none, none, none, none, none, none, none], [.int (-1)], σ)) rfl ?_
            cases hf
            exact go_r rfl
/-! OldWeather.plan(IIIIII)I -/
def fX0_plan_J245 (x1 : Int32) (x2 : Int32) (x4 : Int32) (x6 : Int32) (x7 : Int32) (x8 : Int32) (x9 : Int32) (x10 : Int32) (rec138 : (Int32 × Int32 × Int32) → Option (Int32 × Sg)) (σ : Sg) : Option (Int32 × Sg) :=
  rec138 (x8, x9, (x10 + 1))
set_option maxHeartbeats 1500000 in
theorem fX0_plan_J245_ok (x1 : Int32) (x2 : Int32) (x4 : Int32) (x6 : Int32) (x7 : Int32) (x8 : Int32) (x9 : Int32) (x10 : Int32) (rec138 : (Int32 × Int32 × Int32) → Option (Int32 × Sg)) (σ : Sg) (hrec138 : ∀ (y8 : Int32) (y9 : Int32) (y10 : Int32) (r : (Int32 × Sg)), rec138 (y8, y9, y10) = some r → Go true 3249 iX0_plan (138, [some (.ref 0), some (.int x1), some (.int x2), none, some (.int x4), none, some (.int x6), some (.int x7), some (.int y8), some (.int y9), some (.int y10), none, none, none], [], σ) (.inl (some (.int (r).1)), (r).2)) (r : (Int32 × Sg)) (hf : fX0_plan_J245 x1 x2 x4 x6 x7 x8 x9 x10 rec138 σ = some r) : Go true 3249 iX0_plan (245, [some (.ref 0), some (.int x1), some (.int x2), none, some (.int x4), none, some (.int x6), some (.int x7), some (.int x8), some (.int x9), some (.int x10), none, none, none], [], σ) (.inl (some (.int (r).1)), (r).2) := by
  unfold fX0_plan_J245 at hf
  refine go_n 2 (f := (138, [some (.ref 0), some (.int x1), some (.int x2), none, some (.int x4), none, some (.int x6), some (.int x7), some (.int x8), some (.int x9), some (.int (x10 + 1)), none, none, none], [], σ)) rfl ?_
  exact hrec138 _ _ _ _ hf
def fX0_plan_J237 (x1 : Int32) (x2 : Int32) (x4 : Int32) (x6 : Int32) (x7 : Int32) (x10 : Int32) (x12 : Int32) (rec138 : (Int32 × Int32 × Int32) → Option (Int32 × Sg)) (σ : Sg) : Option (Int32 × Sg) :=
  fX0_plan_J245 x1 x2 x4 x6 x7 x10 x12 x10 rec138 σ
set_option maxHeartbeats 1500000 in
theorem fX0_plan_J237_ok (x1 : Int32) (x2 : Int32) (x4 : Int32) (x6 : Int32) (x7 : Int32) (x10 : Int32) (x12 : Int32) (rec138 : (Int32 × Int32 × Int32) → Option (Int32 × Sg)) (σ : Sg) (hrec138 : ∀ (y8 : Int32) (y9 : Int32) (y10 : Int32) (r : (Int32 × Sg)), rec138 (y8, y9, y10) = some r → Go true 3249 iX0_plan (138, [some (.ref 0), some (.int x1), some (.int x2), none, some (.int x4), none, some (.int x6), some (.int x7), some (.int y8), some (.int y9), some (.int y10), none, none, none], [], σ) (.inl (some (.int (r).1)), (r).2)) (r : (Int32 × Sg)) (hf : fX0_plan_J237 x1 x2 x4 x6 x7 x10 x12 rec138 σ = some r) : Go true 3249 iX0_plan (237, [some (.ref 0), some (.int x1), some (.int x2), none, some (.int x4), none, some (.int x6), some (.int x7), none, none, some (.int x10), none, some (.int x12), none], [], σ) (.inl (some (.int (r).1)), (r).2) := by
  unfold fX0_plan_J237 at hf
  refine go_n 4 (f := (245, [some (.ref 0), some (.int x1), some (.int x2), none, some (.int x4), none, some (.int x6), some (.int x7), some (.int x10), some (.int x12), some (.int x10), none, some (.int x12), none], [], σ)) rfl ?_
  refine go_e (L1 := [some (.ref 0), some (.int x1), some (.int x2), none, some (.int x4), none, some (.int x6), some (.int x7), some (.int x10), some (.int x12), some (.int x10), none, none, none]) rfl rfl ?_
  exact fX0_plan_J245_ok _ _ _ _ _ _ _ _ _ _ hrec138 _ hf
def fX0_plan_L138 (x1 : Int32) (x2 : Int32) (x4 : Int32) (x6 : Int32) (x7 : Int32) (σ : Sg)  (rec138 : (Int32 × Int32 × Int32) → Option (Int32 × Sg)) (s : Int32 × Int32 × Int32) : Option (Int32 × Sg) :=
  match s with
  | (x8, x9, x10) => (fJ2_size 8 σ).bind fun q23 => if ((1 : Int32) <<< (q23 &&& 31)) ≤ x10 then if x6 ≠ 0 then if x6 ≠ 1 then (fX0_hoursOf x8 σ).bind fun q28 => some (q28, σ) else some (x9, σ) else some (x8, σ) else (fX0_hoursOf x10 σ).bind fun q30 => if q30 ≤ x4 then (fX0_widthsOf x10 x1 x2 x7 σ).bind fun q33 => (fX0_hoursOf x8 σ).bind fun q35 => if x9 < q33 then fX0_plan_J245 x1 x2 x4 x6 x7 x8 x9 x10 rec138 σ else if q33 ≠ x9 then fX0_plan_J237 x1 x2 x4 x6 x7 x10 q33 rec138 σ else if q35 < q30 then fX0_plan_J245 x1 x2 x4 x6 x7 x8 x9 x10 rec138 σ else if q30 ≠ q35 then fX0_plan_J237 x1 x2 x4 x6 x7 x10 q33 rec138 σ else (fJ17_bitCount x10).bind fun q41 => (fJ17_bitCount x8).bind fun q43 => ((fun (z46 : Int32) (z47 : Int32) => rec138 (z46, z47, (x10 + 1))) (if q41 < q43 then x10 else x8) (if q41 < q43 then q33 else x9)) else fX0_plan_J245 x1 x2 x4 x6 x7 x8 x9 x10 rec138 σ
set_option maxHeartbeats 1500000 in
theorem fX0_plan_L138_ok (x1 : Int32) (x2 : Int32) (x4 : Int32) (x6 : Int32) (x7 : Int32) (σ : Sg)   : ∀ (n : Nat) (x8 : Int32) (x9 : Int32) (x10 : Int32) (r : (Int32 × Sg)), lp (fX0_plan_L138 x1 x2 x4 x6 x7 σ ) n (x8, x9, x10) = some r → Go true 3249 iX0_plan (138, [some (.ref 0), some (.int x1), some (.int x2), none, some (.int x4), none, some (.int x6), some (.int x7), some (.int x8), some (.int x9), some (.int x10), none, none, none], [], σ) (.inl (some (.int (r).1)), (r).2) := by
  intro n
  induction n with
  | zero => intro x8 x9 x10 r hf; cases hf
  | succ n ih =>
    intro x8 x9 x10 r hf
    have hf : fX0_plan_L138 x1 x2 x4 x6 x7 σ  (lp (fX0_plan_L138 x1 x2 x4 x6 x7 σ ) n) (x8, x9, x10) = some r := hf
    have hrec138 := ih
    generalize lp (fX0_plan_L138 x1 x2 x4 x6 x7 σ ) n = rec138 at hf hrec138
    unfold fX0_plan_L138 at hf
    dsimp only at hf
    refine go_n 5 (f := (148, [some (.ref 0), some (.int x1), some (.int x2), none, some (.int x4), none, some (.int x6), some (.int x7), some (.int x8), some (.int x9), some (.int x10), none, none, none], [.ref 8, .int 1, .int x10], σ)) rfl ?_
    obtain ⟨q23, h24, hf⟩ := bnd hf
    refine go_c (mid := 2821) (args := [.ref 8]) (pc := 151) (L := [some (.ref 0), some (.int x1), some (.int x2), none, some (.int x4), none, some (.int x6), some (.int x7), some (.int x8), some (.int x9), some (.int x10), none, none, none]) (st := [.int 1, .int x10]) (σ := σ) rfl ((fJ2_size_ok _ _ q23 h24).deep (Nat.le_of_ble_eq_true rfl)) ?_
    refine go_n 1 (f := (152, [some (.ref 0), some (.int x1), some (.int x2), none, some (.int x4), none, some (.int x6), some (.int x7), some (.int x8), some (.int x9), some (.int x10), none, none, none], [.int ((1 : Int32) <<< (q23 &&& 31)), .int x10], σ)) rfl ?_
    by_cases h25 : ((1 : Int32) <<< (q23 &&& 31)) ≤ x10
    · rw [if_pos h25] at hf
      refine go_it (t := 251) (f := 155) (L1 := [some (.ref 0), some (.int x1), some (.int x2), none, some (.int x4), none, some (.int x6), some (.int x7), some (.int x8), some (.int x9), some (.int x10), none, none, none]) (st1 := []) (σ1 := σ) rfl h25 ?_
      refine go_n 1 (f := (253, [some (.ref 0), some (.int x1), some (.int x2), none, some (.int x4), none, some (.int x6), some (.int x7), some (.int x8), some (.int x9), some (.int x10), none, none, none], [.int x6], σ)) rfl ?_
      by_cases h26 : x6 ≠ 0
      · rw [if_pos h26] at hf
        refine go_it (t := 261) (f := 256) (L1 := [some (.ref 0), some (.int x1), some (.int x2), none, some (.int x4), none, some (.int x6), some (.int x7), some (.int x8), some (.int x9), some (.int x10), none, none, none]) (st1 := []) (σ1 := σ) rfl h26 ?_
        refine go_n 2 (f := (264, [some (.ref 0), some (.int x1), some (.int x2), none, some (.int x4), none, some (.int x6), some (.int x7), some (.int x8), some (.int x9), some (.int x10), none, none, none], [.int 1, .int x6], σ)) rfl ?_
        by_cases h27 : x6 ≠ 1
        · rw [if_pos h27] at hf
          refine go_it (t := 272) (f := 267) (L1 := [some (.ref 0), some (.int x1), some (.int x2), none, some (.int x4), none, some (.int x6), some (.int x7), some (.int x8), some (.int x9), some (.int x10), none, none, none]) (st1 := []) (σ1 := σ) rfl h27 ?_
          refine go_n 2 (f := (275, [some (.ref 0), some (.int x1), some (.int x2), none, some (.int x4), none, some (.int x6), some (.int x7), some (.int x8), some (.int x9), some (.int x10), none, none, none], [.int x8, .ref 0], σ)) rfl ?_
          obtain ⟨q28, h29, hf⟩ := bnd hf
          refine go_c (mid := 5209) (args := [.ref 0, .int x8]) (pc := 278) (L := [some (.ref 0), some (.int x1), some (.int x2), none, some (.int x4), none, some (.int x6), some (.int x7), some (.int x8), some (.int x9), some (.int x10), none, none, none]) (st := []) (σ := σ) rfl ((fX0_hoursOf_ok _ _ q28 h29).deep (Nat.le_of_ble_eq_true rfl)) ?_
          refine go_e (L1 := [none, none, none, none, none, none, none, none, none, none, none, none, none, none]) rfl rfl ?_
          cases hf
          exact go_r rfl
        · rw [if_neg h27] at hf
          refine go_if (t := 272) (f := 267) (L1 := [some (.ref 0), some (.int x1), some (.int x2), none, some (.int x4), none, some (.int x6), some (.int x7), some (.int x8), some (.int x9), some (.int x10), none, none, none]) (st1 := []) (σ1 := σ) rfl h27 ?_
          refine go_n 2 (f := (278, [some (.ref 0), some (.int x1), some (.int x2), none, some (.int x4), none, some (.int x6), some (.int x7), some (.int x8), some (.int x9), some (.int x10), none, none, none], [.int x9], σ)) rfl ?_
          refine go_e (L1 := [none, none, none, none, none, none, none, none, none, none, none, none, none, none]) rfl rfl ?_
          cases hf
          exact go_r rfl
      · rw [if_neg h26] at hf
        refine go_if (t := 261) (f := 256) (L1 := [some (.ref 0), some (.int x1), some (.int x2), none, some (.int x4), none, some (.int x6), some (.int x7), some (.int x8), some (.int x9), some (.int x10), none, none, none]) (st1 := []) (σ1 := σ) rfl h26 ?_
        refine go_n 2 (f := (278, [some (.ref 0), some (.int x1), some (.int x2), none, some (.int x4), none, some (.int x6), some (.int x7), some (.int x8), some (.int x9), some (.int x10), none, none, none], [.int x8], σ)) rfl ?_
        refine go_e (L1 := [none, none, none, none, none, none, none, none, none, none, none, none, none, none]) rfl rfl ?_
        cases hf
        exact go_r rfl
    · rw [if_neg h25] at hf
      refine go_if (t := 251) (f := 155) (L1 := [some (.ref 0), some (.int x1), some (.int x2), none, some (.int x4), none, some (.int x6), some (.int x7), some (.int x8), some (.int x9), some (.int x10), none, none, none]) (st1 := []) (σ1 := σ) rfl h25 ?_
      refine go_n 2 (f := (158, [some (.ref 0), some (.int x1), some (.int x2), none, some (.int x4), none, some (.int x6), some (.int x7), some (.int x8), some (.int x9), some (.int x10), none, none, none], [.int x10, .ref 0], σ)) rfl ?_
      obtain ⟨q30, h31, hf⟩ := bnd hf
      refine go_c (mid := 5209) (args := [.ref 0, .int x10]) (pc := 161) (L := [some (.ref 0), some (.int x1), some (.int x2), none, some (.int x4), none, some (.int x6), some (.int x7), some (.int x8), some (.int x9), some (.int x10), none, none, none]) (st := []) (σ := σ) rfl ((fX0_hoursOf_ok _ _ q30 h31).deep (Nat.le_of_ble_eq_true rfl)) ?_
      refine go_n 3 (f := (167, [some (.ref 0), some (.int x1), some (.int x2), none, some (.int x4), none, some (.int x6), some (.int x7), some (.int x8), some (.int x9), some (.int x10), some (.int q30), none, none], [.int x4, .int q30], σ)) rfl ?_
      by_cases h32 : q30 ≤ x4
      · rw [if_pos h32] at hf
        refine go_it (t := 173) (f := 170) (L1 := [some (.ref 0), some (.int x1), some (.int x2), none, some (.int x4), none, some (.int x6), some (.int x7), some (.int x8), some (.int x9), some (.int x10), some (.int q30), none, none]) (st1 := []) (σ1 := σ) rfl h32 ?_
        refine go_n 5 (f := (180, [some (.ref 0), some (.int x1), some (.int x2), none, some (.int x4), none, some (.int x6), some (.int x7), some (.int x8), some (.int x9), some (.int x10), some (.int q30), none, none], [.int x7, .int x2, .int x1, .int x10, .ref 0], σ)) rfl ?_
        obtain ⟨q33, h34, hf⟩ := bnd hf
        refine go_c (mid := 5208) (args := [.ref 0, .int x10, .int x1, .int x2, .int x7]) (pc := 183) (L := [some (.ref 0), some (.int x1), some (.int x2), none, some (.int x4), none, some (.int x6), some (.int x7), some (.int x8), some (.int x9), some (.int x10), some (.int q30), none, none]) (st := []) (σ := σ) rfl ((fX0_widthsOf_ok _ _ _ _ _ q33 h34).deep (Nat.le_of_ble_eq_true rfl)) ?_
        refine go_n 3 (f := (188, [some (.ref 0), some (.int x1), some (.int x2), none, some (.int x4), none, some (.int x6), some (.int x7), some (.int x8), some (.int x9), some (.int x10), some (.int q30), some (.int q33), none], [.int x8, .ref 0], σ)) rfl ?_
        obtain ⟨q35, h36, hf⟩ := bnd hf
        refine go_c (mid := 5209) (args := [.ref 0, .int x8]) (pc := 191) (L := [some (.ref 0), some (.int x1), some (.int x2), none, some (.int x4), none, some (.int x6), some (.int x7), some (.int x8), some (.int x9), some (.int x10), some (.int q30), some (.int q33), none]) (st := []) (σ := σ) rfl ((fX0_hoursOf_ok _ _ q35 h36).deep (Nat.le_of_ble_eq_true rfl)) ?_
        refine go_n 3 (f := (197, [some (.ref 0), some (.int x1), some (.int x2), none, some (.int x4), none, some (.int x6), some (.int x7), some (.int x8), some (.int x9), some (.int x10), some (.int q30), some (.int q33), some (.int q35)], [.int x9, .int q33], σ)) rfl ?_
        by_cases h37 : x9 < q33
        · rw [if_pos h37] at hf
          refine go_it (t := 245) (f := 200) (L1 := [some (.ref 0), some (.int x1), some (.int x2), none, some (.int x4), none, some (.int x6), some (.int x7), some (.int x8), some (.int x9), some (.int x10), some (.int q30), some (.int q33), some (.int q35)]) (st1 := []) (σ1 := σ) rfl h37 ?_
          refine go_e (L1 := [some (.ref 0), some (.int x1), some (.int x2), none, some (.int x4), none, some (.int x6), some (.int x7), some (.int x8), some (.int x9), some (.int x10), none, none, none]) rfl rfl ?_
          exact fX0_plan_J245_ok _ _ _ _ _ _ _ _ _ _ hrec138 _ hf
        · rw [if_neg h37] at hf
          refine go_if (t := 245) (f := 200) (L1 := [some (.ref 0), some (.int x1), some (.int x2), none, some (.int x4), none, some (.int x6), some (.int x7), some (.int x8), some (.int x9), some (.int x10), some (.int q30), some (.int q33), some (.int q35)]) (st1 := []) (σ1 := σ) rfl h37 ?_
          refine go_n 2 (f := (204, [some (.ref 0), some (.int x1), some (.int x2), none, some (.int x4), none, some (.int x6), some (.int x7), some (.int x8), some (.int x9), some (.int x10), some (.int q30), some (.int q33), some (.int q35)], [.int x9, .int q33], σ)) rfl ?_
          by_cases h38 : q33 ≠ x9
          · rw [if_pos h38] at hf
            refine go_it (t := 237) (f := 207) (L1 := [some (.ref 0), some (.int x1), some (.int x2), none, some (.int x4), none, some (.int x6), some (.int x7), some (.int x8), some (.int x9), some (.int x10), some (.int q30), some (.int q33), some (.int q35)]) (st1 := []) (σ1 := σ) rfl h38 ?_
            refine go_e (L1 := [some (.ref 0), some (.int x1), some (.int x2), none, some (.int x4), none, some (.int x6), some (.int x7), none, none, some (.int x10), none, some (.int q33), none]) rfl rfl ?_
            exact fX0_plan_J237_ok _ _ _ _ _ _ _ _ _ hrec138 _ hf
          · rw [if_neg h38] at hf
            refine go_if (t := 237) (f := 207) (L1 := [some (.ref 0), some (.int x1), some (.int x2), none, some (.int x4), none, some (.int x6), some (.int x7), some (.int x8), some (.int x9), some (.int x10), some (.int q30), some (.int q33), some (.int q35)]) (st1 := []) (σ1 := σ) rfl h38 ?_
            refine go_n 2 (f := (211, [some (.ref 0), some (.int x1), some (.int x2), none, some (.int x4), none, some (.int x6), some (.int x7), some (.int x8), some (.int x9), some (.int x10), some (.int q30), some (.int q33), some (.int q35)], [.int q35, .int q30], σ)) rfl ?_
            by_cases h39 : q35 < q30
            · rw [if_pos h39] at hf
              refine go_it (t := 245) (f := 214) (L1 := [some (.ref 0), some (.int x1), some (.int x2), none, some (.int x4), none, some (.int x6), some (.int x7), some (.int x8), some (.int x9), some (.int x10), some (.int q30), some (.int q33), some (.int q35)]) (st1 := []) (σ1 := σ) rfl h39 ?_
              refine go_e (L1 := [some (.ref 0), some (.int x1), some (.int x2), none, some (.int x4), none, some (.int x6), some (.int x7), some (.int x8), some (.int x9), some (.int x10), none, none, none]) rfl rfl ?_
              exact fX0_plan_J245_ok _ _ _ _ _ _ _ _ _ _ hrec138 _ hf
            · rw [if_neg h39] at hf
              refine go_if (t := 245) (f := 214) (L1 := [some (.ref 0), some (.int x1), some (.int x2), none, some (.int x4), none, some (.int x6), some (.int x7), some (.int x8), some (.int x9), some (.int x10), some (.int q30), some (.int q33), some (.int q35)]) (st1 := []) (σ1 := σ) rfl h39 ?_
              refine go_n 2 (f := (218, [some (.ref 0), some (.int x1), some (.int x2), none, some (.int x4), none, some (.int x6), some (.int x7), some (.int x8), some (.int x9), some (.int x10), some (.int q30), some (.int q33), some (.int q35)], [.int q35, .int q30], σ)) rfl ?_
              by_cases h40 : q30 ≠ q35
              · rw [if_pos h40] at hf
                refine go_it (t := 237) (f := 221) (L1 := [some (.ref 0), some (.int x1), some (.int x2), none, some (.int x4), none, some (.int x6), some (.int x7), some (.int x8), some (.int x9), some (.int x10), some (.int q30), some (.int q33), some (.int q35)]) (st1 := []) (σ1 := σ) rfl h40 ?_
                refine go_e (L1 := [some (.ref 0), some (.int x1), some (.int x2), none, some (.int x4), none, some (.int x6), some (.int x7), none, none, some (.int x10), none, some (.int q33), none]) rfl rfl ?_
                exact fX0_plan_J237_ok _ _ _ _ _ _ _ _ _ hrec138 _ hf
              · rw [if_neg h40] at hf
                refine go_if (t := 237) (f := 221) (L1 := [some (.ref 0), some (.int x1), some (.int x2), none, some (.int x4), none, some (.int x6), some (.int x7), some (.int x8), some (.int x9), some (.int x10), some (.int q30), some (.int q33), some (.int q35)]) (st1 := []) (σ1 := σ) rfl h40 ?_
                refine go_n 1 (f := (223, [some (.ref 0), some (.int x1), some (.int x2), none, some (.int x4), none, some (.int x6), some (.int x7), some (.int x8), some (.int x9), some (.int x10), some (.int q30), some (.int q33), some (.int q35)], [.int x10], σ)) rfl ?_
                obtain ⟨q41, h42, hf⟩ := bnd hf
                refine go_c (mid := 2304) (args := [.int x10]) (pc := 226) (L := [some (.ref 0), some (.int x1), some (.int x2), none, some (.int x4), none, some (.int x6), some (.int x7), some (.int x8), some (.int x9), some (.int x10), some (.int q30), some (.int q33), some (.int q35)]) (st := []) (σ := σ) rfl ((fJ17_bitCount_ok _ _ q41 h42).deep (Nat.le_of_ble_eq_true rfl)) ?_
                refine go_n 1 (f := (228, [some (.ref 0), some (.int x1), some (.int x2), none, some (.int x4), none, some (.int x6), some (.int x7), some (.int x8), some (.int x9), some (.int x10), some (.int q30), some (.int q33), some (.int q35)], [.int x8, .int q41], σ)) rfl ?_
                obtain ⟨q43, h44, hf⟩ := bnd hf
                refine go_c (mid := 2304) (args := [.int x8]) (pc := 231) (L := [some (.ref 0), some (.int x1), some (.int x2), none, some (.int x4), none, some (.int x6), some (.int x7), some (.int x8), some (.int x9), some (.int x10), some (.int q30), some (.int q33), some (.int q35)]) (st := [.int q41]) (σ := σ) rfl ((fJ17_bitCount_ok _ _ q43 h44).deep (Nat.le_of_ble_eq_true rfl)) ?_
                refine go_m (f := (245, [some (.ref 0), some (.int x1), some (.int x2), none, some (.int x4), none, some (.int x6), some (.int x7), some (.int (if q41 < q43 then x10 else x8)), some (.int (if q41 < q43 then q33 else x9)), some (.int x10), none, none, none], [], σ)) ?_ (fun hJ48 => ?_)
                · generalize hz46 : (if q41 < q43 then x10 else x8) = z46 at hf ⊢
                  generalize hz47 : (if q41 < q43 then q33 else x9) = z47 at hf ⊢
                  try dsimp only at hf
                  refine go_n 2 (f := (138, [some (.ref 0), some (.int x1), some (.int x2), none, some (.int x4), none, some (.int x6), some (.int x7), some (.int z46), some (.int z47), some (.int (x10 + 1)), none, none, none], [], σ)) rfl ?_
                  exact hrec138 _ _ _ _ hf
                · by_cases h45 : q41 < q43
                  · refine go_it (t := 237) (f := 234) (L1 := [some (.ref 0), some (.int x1), some (.int x2), none, some (.int x4), none, some (.int x6), some (.int x7), some (.int x8), some (.int x9), some (.int x10), some (.int q30), some (.int q33), some (.int q35)]) (st1 := []) (σ1 := σ) rfl h45 ?_
                    refine go_e (L1 := [some (.ref 0), some (.int x1), some (.int x2), none, some (.int x4), none, some (.int x6), some (.int x7), none, none, some (.int x10), none, some (.int q33), none]) rfl rfl ?_
                    refine go_n 4 (f := (245, [some (.ref 0), some (.int x1), some (.int x2), none, some (.int x4), none, some (.int x6), some (.int x7), some (.int x10), some (.int q33), some (.int x10), none, some (.int q33), none], [], σ)) rfl ?_
                    refine go_e (L1 := [some (.ref 0), some (.int x1), some (.int x2), none, some (.int x4), none, some (.int x6), some (.int x7), some (.int x10), some (.int q33), some (.int x10), none, none, none]) rfl rfl ?_
                    simp only [if_pos h45] at hJ48
                    first | exact hJ48 | (simp only [if_pos h45]; exact hJ48)
                  · refine go_if (t := 237) (f := 234) (L1 := [some (.ref 0), some (.int x1), some (.int x2), none, some (.int x4), none, some (.int x6), some (.int x7), some (.int x8), some (.int x9), some (.int x10), some (.int q30), some (.int q33), some (.int q35)]) (st1 := []) (σ1 := σ) rfl h45 ?_
                    refine go_n 1 (f := (245, [some (.ref 0), some (.int x1), some (.int x2), none, some (.int x4), none, some (.int x6), some (.int x7), some (.int x8), some (.int x9), some (.int x10), some (.int q30), some (.int q33), some (.int q35)], [], σ)) rfl ?_
                    refine go_e (L1 := [some (.ref 0), some (.int x1), some (.int x2), none, some (.int x4), none, some (.int x6), some (.int x7), some (.int x8), some (.int x9), some (.int x10), none, none, none]) rfl rfl ?_
                    simp only [if_neg h45] at hJ48
                    first | exact hJ48 | (simp only [if_neg h45]; exact hJ48)
      · rw [if_neg h32] at hf
        refine go_if (t := 173) (f := 170) (L1 := [some (.ref 0), some (.int x1), some (.int x2), none, some (.int x4), none, some (.int x6), some (.int x7), some (.int x8), some (.int x9), some (.int x10), some (.int q30), none, none]) (st1 := []) (σ1 := σ) rfl h32 ?_
        refine go_n 1 (f := (245, [some (.ref 0), some (.int x1), some (.int x2), none, some (.int x4), none, some (.int x6), some (.int x7), some (.int x8), some (.int x9), some (.int x10), some (.int q30), none, none], [], σ)) rfl ?_
        refine go_e (L1 := [some (.ref 0), some (.int x1), some (.int x2), none, some (.int x4), none, some (.int x6), some (.int x7), some (.int x8), some (.int x9), some (.int x10), none, none, none]) rfl rfl ?_
        exact fX0_plan_J245_ok _ _ _ _ _ _ _ _ _ _ hrec138 _ hf
def fX0_plan_L75 (x1 : Int32) (x2 : Int32) (x4 : Int32) (x5 : Int32) (x6 : Int32) (x7 : Int32)  (rec75 : (Int32 × Sg) → Option (Int32 × Sg)) (s : Int32 × Sg) : Option (Int32 × Sg) :=
  match s with
  | (x8, σ) => if x7 ≤ x8 then (fX0_widthsOf 0 x1 x2 x7 σ).bind fun q21 => lp (fX0_plan_L138 x1 x2 x4 x6 x7 σ ) N0 (0, q21, 1) else (fX0_joins x1 (x2 + x8) x5 (-1) 0 σ).bind fun q49 => (fJ5_max 0 ((gi q49 0 23) - (gi q49 0 22))).bind fun q51 => if inb x8 60 then rec75 ((x8 + 1), (wi q49 59 x8.toNatClampNeg q51)) else none
set_option maxHeartbeats 1500000 in
theorem fX0_plan_L75_ok (x1 : Int32) (x2 : Int32) (x4 : Int32) (x5 : Int32) (x6 : Int32) (x7 : Int32)   : ∀ (n : Nat) (x8 : Int32) (σ : Sg) (r : (Int32 × Sg)), lp (fX0_plan_L75 x1 x2 x4 x5 x6 x7 ) n (x8, σ) = some r → Go true 3249 iX0_plan (75, [some (.ref 0), some (.int x1), some (.int x2), none, some (.int x4), some (.int x5), some (.int x6), some (.int x7), some (.int x8), none, none, none, none, none], [], σ) (.inl (some (.int (r).1)), (r).2) := by
  intro n
  induction n with
  | zero => intro x8 σ r hf; cases hf
  | succ n ih =>
    intro x8 σ r hf
    have hf : fX0_plan_L75 x1 x2 x4 x5 x6 x7  (lp (fX0_plan_L75 x1 x2 x4 x5 x6 x7 ) n) (x8, σ) = some r := hf
    have hrec75 := ih
    generalize lp (fX0_plan_L75 x1 x2 x4 x5 x6 x7 ) n = rec75 at hf hrec75
    unfold fX0_plan_L75 at hf
    dsimp only at hf
    refine go_n 2 (f := (79, [some (.ref 0), some (.int x1), some (.int x2), none, some (.int x4), some (.int x5), some (.int x6), some (.int x7), some (.int x8), none, none, none, none, none], [.int x7, .int x8], σ)) rfl ?_
    by_cases h20 : x7 ≤ x8
    · rw [if_pos h20] at hf
      refine go_it (t := 121) (f := 82) (L1 := [some (.ref 0), some (.int x1), some (.int x2), none, some (.int x4), some (.int x5), some (.int x6), some (.int x7), some (.int x8), none, none, none, none, none]) (st1 := []) (σ1 := σ) rfl h20 ?_
      refine go_n 7 (f := (130, [some (.ref 0), some (.int x1), some (.int x2), none, some (.int x4), some (.int x5), some (.int x6), some (.int x7), some (.int 0), none, none, none, none, none], [.int x7, .int x2, .int x1, .int 0, .ref 0], σ)) rfl ?_
      obtain ⟨q21, h22, hf⟩ := bnd hf
      refine go_c (mid := 5208) (args := [.ref 0, .int 0, .int x1, .int x2, .int x7]) (pc := 133) (L := [some (.ref 0), some (.int x1), some (.int x2), none, some (.int x4), some (.int x5), some (.int x6), some (.int x7), some (.int 0), none, none, none, none, none]) (st := []) (σ := σ) rfl ((fX0_widthsOf_ok _ _ _ _ _ q21 h22).deep (Nat.le_of_ble_eq_true rfl)) ?_
      refine go_n 3 (f := (138, [some (.ref 0), some (.int x1), some (.int x2), none, some (.int x4), some (.int x5), some (.int x6), some (.int x7), some (.int 0), some (.int q21), some (.int 1), none, none, none], [], σ)) rfl ?_
      refine go_e (L1 := [some (.ref 0), some (.int x1), some (.int x2), none, some (.int x4), none, some (.int x6), some (.int x7), some (.int 0), some (.int q21), some (.int 1), none, none, none]) rfl rfl ?_
      exact fX0_plan_L138_ok _ _ _ _ _ _   N0 _ _ _ _ hf
    · rw [if_neg h20] at hf
      refine go_if (t := 121) (f := 82) (L1 := [some (.ref 0), some (.int x1), some (.int x2), none, some (.int x4), some (.int x5), some (.int x6), some (.int x7), some (.int x8), none, none, none, none, none]) (st1 := []) (σ1 := σ) rfl h20 ?_
      refine go_n 8 (f := (92, [some (.ref 0), some (.int x1), some (.int x2), none, some (.int x4), some (.int x5), some (.int x6), some (.int x7), some (.int x8), none, none, none, none, none], [.int 0, .int (-1), .int x5, .int (x2 + x8), .int x1, .ref 0], σ)) rfl ?_
      obtain ⟨q49, h50, hf⟩ := bnd hf
      refine go_c (mid := 5183) (args := [.ref 0, .int x1, .int (x2 + x8), .int x5, .int (-1), .int 0]) (pc := 95) (L := [some (.ref 0), some (.int x1), some (.int x2), none, some (.int x4), some (.int x5), some (.int x6), some (.int x7), some (.int x8), none, none, none, none, none]) (st := []) (σ := σ) rfl ((fX0_joins_ok _ _ _ _ _ _ q49 h50).deep (Nat.le_of_ble_eq_true rfl)) ?_
      refine go_n 9 (f := (111, [some (.ref 0), some (.int x1), some (.int x2), none, some (.int x4), some (.int x5), some (.int x6), some (.int x7), some (.int x8), none, none, none, none, none], [.int ((gi q49 0 23) - (gi q49 0 22)), .int 0, .int x8, .ref 59], q49)) rfl ?_
      obtain ⟨q51, h52, hf⟩ := bnd hf
      refine go_c (mid := 3584) (args := [.int 0, .int ((gi q49 0 23) - (gi q49 0 22))]) (pc := 114) (L := [some (.ref 0), some (.int x1), some (.int x2), none, some (.int x4), some (.int x5), some (.int x6), some (.int x7), some (.int x8), none, none, none, none, none]) (st := [.int x8, .ref 59]) (σ := q49) rfl ((fJ5_max_ok _ _ _ q51 h52).deep (Nat.le_of_ble_eq_true rfl)) ?_
      obtain ⟨h53, hf⟩ := grd hf
      refine go_iast rfl rfl rfl h53 ?_
      refine go_n 2 (f := (75, [some (.ref 0), some (.int x1), some (.int x2), none, some (.int x4), some (.int x5), some (.int x6), some (.int x7), some (.int (x8 + 1)), none, none, none, none, none], [], (wi q49 59 x8.toNatClampNeg q51))) rfl ?_
      exact hrec75 _ _ _ hf
def fX0_plan (x1 : Int32) (x2 : Int32) (x3 : Int32) (x4 : Int32) (x5 : Int32) (x6 : Int32) (σ : Sg) : Option (Int32 × Sg) :=
  (fX0_isPlace x1 σ).bind fun q1 => if q1 = 0 then some ((-1), σ) else (fX0_isDay x2).bind fun q4 => if q4 = 0 then some ((-1), σ) else (fX0_in x3 x2 109999).bind fun q7 => if q7 = 0 then some ((-1), σ) else if 59 < (x3 - x2) then some ((-1), σ) else (fX0_in x4 0 500).bind fun q11 => if q11 = 0 then some ((-1), σ) else (fX0_isDesk x5).bind fun q14 => if q14 = 0 then some ((-1), σ) else (fX0_in x6 0 2).bind fun q17 => if q17 ≠ 0 then lp (fX0_plan_L75 x1 x2 x4 x5 x6 ((x3 - x2) + 1) ) N0 (0, σ) else some ((-1), σ)
set_option maxHeartbeats 1500000 in
theorem fX0_plan_ok (x1 : Int32) (x2 : Int32) (x3 : Int32) (x4 : Int32) (x5 : Int32) (x6 : Int32) (σ : Sg) (r : (Int32 × Sg)) (hf : fX0_plan x1 x2 x3 x4 x5 x6 σ = some r) : Cl true 3249 5207 [.ref 0, .int x1, .int x2, .int x3, .int x4, .int x5, .int x6] σ (.inl (some (.int (r).1)), (r).2) := by
  refine ⟨iX0_plan, rfl, Nat.le_of_ble_eq_true rfl, Nat.le_of_ble_eq_true rfl, ?_⟩
  show Go true 3249 iX0_plan (0, [some (.ref 0), some (.int x1), some (.int x2), some (.int x3), some (.int x4), some (.int x5), some (.int x6), none, none, none, none, none, none, none], [], σ) (.inl (some (.int (r).1)), (r).2)
  unfold fX0_plan at hf
  refine go_n 2 (f := (2, [some (.ref 0), some (.int x1), some (.int x2), some (.int x3), some (.int x4), some (.int x5), some (.int x6), none, none, none, none, none, none, none], [.int x1, .ref 0], σ)) rfl ?_
  obtain ⟨q1, h2, hf⟩ := bnd hf
  refine go_c (mid := 5139) (args := [.ref 0, .int x1]) (pc := 5) (L := [some (.ref 0), some (.int x1), some (.int x2), some (.int x3), some (.int x4), some (.int x5), some (.int x6), none, none, none, none, none, none, none]) (st := []) (σ := σ) rfl ((fX0_isPlace_ok _ _ q1 h2).deep (Nat.le_of_ble_eq_true rfl)) ?_
  by_cases h3 : q1 = 0
  · rw [if_pos h3] at hf
    refine go_it (t := 63) (f := 8) (L1 := [some (.ref 0), some (.int x1), some (.int x2), some (.int x3), some (.int x4), some (.int x5), some (.int x6), none, none, none, none, none, none, none]) (st1 := []) (σ1 := σ) rfl h3 ?_
    refine go_e (L1 := [none, none, none, none, none, none, none, none, none, none, none, none, none, none]) rfl rfl ?_
    refine go_n 1 (f := (64, [none, none, none, none, none, none, none, none, none, none, none, none, none, none], [.int (-1)], σ)) rfl ?_
    cases hf
    exact go_r rfl
  · rw [if_neg h3] at hf
    refine go_if (t := 63) (f := 8) (L1 := [some (.ref 0), some (.int x1), some (.int x2), some (.int x3), some (.int x4), some (.int x5), some (.int x6), none, none, none, none, none, none, none]) (st1 := []) (σ1 := σ) rfl h3 ?_
    refine go_n 1 (f := (9, [some (.ref 0), some (.int x1), some (.int x2), some (.int x3), some (.int x4), some (.int x5), some (.int x6), none, none, none, none, none, none, none], [.int x2], σ)) rfl ?_
    obtain ⟨q4, h5, hf⟩ := bnd hf
    refine go_c (mid := 5128) (args := [.int x2]) (pc := 12) (L := [some (.ref 0), some (.int x1), some (.int x2), some (.int x3), some (.int x4), some (.int x5), some (.int x6), none, none, none, none, none, none, none]) (st := []) (σ := σ) rfl ((fX0_isDay_ok _ _ q4 h5).deep (Nat.le_of_ble_eq_true rfl)) ?_
    by_cases h6 : q4 = 0
    · rw [if_pos h6] at hf
      refine go_it (t := 63) (f := 15) (L1 := [some (.ref 0), some (.int x1), some (.int x2), some (.int x3), some (.int x4), some (.int x5), some (.int x6), none, none, none, none, none, none, none]) (st1 := []) (σ1 := σ) rfl h6 ?_
      refine go_e (L1 := [none, none, none, none, none, none, none, none, none, none, none, none, none, none]) rfl rfl ?_
      refine go_n 1 (f := (64, [none, none, none, none, none, none, none, none, none, none, none, none, none, none], [.int (-1)], σ)) rfl ?_
      cases hf
      exact go_r rfl
    · rw [if_neg h6] at hf
      refine go_if (t := 63) (f := 15) (L1 := [some (.ref 0), some (.int x1), some (.int x2), some (.int x3), some (.int x4), some (.int x5), some (.int x6), none, none, none, none, none, none, none]) (st1 := []) (σ1 := σ) rfl h6 ?_
      refine go_n 3 (f := (19, [some (.ref 0), some (.int x1), some (.int x2), some (.int x3), some (.int x4), some (.int x5), some (.int x6), none, none, none, none, none, none, none], [.int 109999, .int x2, .int x3], σ)) rfl ?_
      obtain ⟨q7, h8, hf⟩ := bnd hf
      refine go_c (mid := 5122) (args := [.int x3, .int x2, .int 109999]) (pc := 22) (L := [some (.ref 0), some (.int x1), some (.int x2), some (.int x3), some (.int x4), some (.int x5), some (.int x6), none, none, none, none, none, none, none]) (st := []) (σ := σ) rfl ((fX0_in_ok _ _ _ _ q7 h8).deep (Nat.le_of_ble_eq_true rfl)) ?_
      by_cases h9 : q7 = 0
      · rw [if_pos h9] at hf
        refine go_it (t := 63) (f := 25) (L1 := [some (.ref 0), some (.int x1), some (.int x2), some (.int x3), some (.int x4), some (.int x5), some (.int x6), none, none, none, none, none, none, none]) (st1 := []) (σ1 := σ) rfl h9 ?_
        refine go_e (L1 := [none, none, none, none, none, none, none, none, none, none, none, none, none, none]) rfl rfl ?_
        refine go_n 1 (f := (64, [none, none, none, none, none, none, none, none, none, none, none, none, none, none], [.int (-1)], σ)) rfl ?_
        cases hf
        exact go_r rfl
      · rw [if_neg h9] at hf
        refine go_if (t := 63) (f := 25) (L1 := [some (.ref 0), some (.int x1), some (.int x2), some (.int x3), some (.int x4), some (.int x5), some (.int x6), none, none, none, none, none, none, none]) (st1 := []) (σ1 := σ) rfl h9 ?_
        refine go_n 4 (f := (30, [some (.ref 0), some (.int x1), some (.int x2), some (.int x3), some (.int x4), some (.int x5), some (.int x6), none, none, none, none, none, none, none], [.int 59, .int (x3 - x2)], σ)) rfl ?_
        by_cases h10 : 59 < (x3 - x2)
        · rw [if_pos h10] at hf
          refine go_it (t := 63) (f := 33) (L1 := [some (.ref 0), some (.int x1), some (.int x2), some (.int x3), some (.int x4), some (.int x5), some (.int x6), none, none, none, none, none, none, none]) (st1 := []) (σ1 := σ) rfl h10 ?_
          refine go_e (L1 := [none, none, none, none, none, none, none, none, none, none, none, none, none, none]) rfl rfl ?_
          refine go_n 1 (f := (64, [none, none, none, none, none, none, none, none, none, none, none, none, none, none], [.int (-1)], σ)) rfl ?_
          cases hf
          exact go_r rfl
        · rw [if_neg h10] at hf
          refine go_if (t := 63) (f := 33) (L1 := [some (.ref 0), some (.int x1), some (.int x2), some (.int x3), some (.int x4), some (.int x5), some (.int x6), none, none, none, none, none, none, none]) (st1 := []) (σ1 := σ) rfl h10 ?_
          refine go_n 3 (f := (39, [some (.ref 0), some (.int x1), some (.int x2), some (.int x3), some (.int x4), some (.int x5), some (.int x6), none, none, none, none, none, none, none], [.int 500, .int 0, .int x4], σ)) rfl ?_
          obtain ⟨q11, h12, hf⟩ := bnd hf
          refine go_c (mid := 5122) (args := [.int x4, .int 0, .int 500]) (pc := 42) (L := [some (.ref 0), some (.int x1), some (.int x2), some (.int x3), some (.int x4), some (.int x5), some (.int x6), none, none, none, none, none, none, none]) (st := []) (σ := σ) rfl ((fX0_in_ok _ _ _ _ q11 h12).deep (Nat.le_of_ble_eq_true rfl)) ?_
          by_cases h13 : q11 = 0
          · rw [if_pos h13] at hf
            refine go_it (t := 63) (f := 45) (L1 := [some (.ref 0), some (.int x1), some (.int x2), some (.int x3), some (.int x4), some (.int x5), some (.int x6), none, none, none, none, none, none, none]) (st1 := []) (σ1 := σ) rfl h13 ?_
            refine go_e (L1 := [none, none, none, none, none, none, none, none, none, none, none, none, none, none]) rfl rfl ?_
            refine go_n 1 (f := (64, [none, none, none, none, none, none, none, none, none, none, none, none, none, none], [.int (-1)], σ)) rfl ?_
            cases hf
            exact go_r rfl
          · rw [if_neg h13] at hf
            refine go_if (t := 63) (f := 45) (L1 := [some (.ref 0), some (.int x1), some (.int x2), some (.int x3), some (.int x4), some (.int x5), some (.int x6), none, none, none, none, none, none, none]) (st1 := []) (σ1 := σ) rfl h13 ?_
            refine go_n 1 (f := (47, [some (.ref 0), some (.int x1), some (.int x2), some (.int x3), some (.int x4), some (.int x5), some (.int x6), none, none, none, none, none, none, none], [.int x5], σ)) rfl ?_
            obtain ⟨q14, h15, hf⟩ := bnd hf
            refine go_c (mid := 5147) (args := [.int x5]) (pc := 50) (L := [some (.ref 0), some (.int x1), some (.int x2), some (.int x3), some (.int x4), some (.int x5), some (.int x6), none, none, none, none, none, none, none]) (st := []) (σ := σ) rfl ((fX0_isDesk_ok _ _ q14 h15).deep (Nat.le_of_ble_eq_true rfl)) ?_
            by_cases h16 : q14 = 0
            · rw [if_pos h16] at hf
              refine go_it (t := 63) (f := 53) (L1 := [some (.ref 0), some (.int x1), some (.int x2), some (.int x3), some (.int x4), some (.int x5), some (.int x6), none, none, none, none, none, none, none]) (st1 := []) (σ1 := σ) rfl h16 ?_
              refine go_e (L1 := [none, none, none, none, none, none, none, none, none, none, none, none, none, none]) rfl rfl ?_
              refine go_n 1 (f := (64, [none, none, none, none, none, none, none, none, none, none, none, none, none, none], [.int (-1)], σ)) rfl ?_
              cases hf
              exact go_r rfl
            · rw [if_neg h16] at hf
              refine go_if (t := 63) (f := 53) (L1 := [some (.ref 0), some (.int x1), some (.int x2), some (.int x3), some (.int x4), some (.int x5), some (.int x6), none, none, none, none, none, none, none]) (st1 := []) (σ1 := σ) rfl h16 ?_
              refine go_n 3 (f := (57, [some (.ref 0), some (.int x1), some (.int x2), some (.int x3), some (.int x4), some (.int x5), some (.int x6), none, none, none, none, none, none, none], [.int 2, .int 0, .int x6], σ)) rfl ?_
              obtain ⟨q17, h18, hf⟩ := bnd hf
              refine go_c (mid := 5122) (args := [.int x6, .int 0, .int 2]) (pc := 60) (L := [some (.ref 0), some (.int x1), some (.int x2), some (.int x3), some (.int x4), some (.int x5), some (.int x6), none, none, none, none, none, none, none]) (st := []) (σ := σ) rfl ((fX0_in_ok _ _ _ _ q17 h18).deep (Nat.le_of_ble_eq_true rfl)) ?_
              by_cases h19 : q17 ≠ 0
              · rw [if_pos h19] at hf
                refine go_it (t := 65) (f := 63) (L1 := [some (.ref 0), some (.int x1), some (.int x2), some (.int x3), some (.int x4), some (.int x5), some (.int x6), none, none, none, none, none, none, none]) (st1 := []) (σ1 := σ) rfl h19 ?_
                refine go_n 8 (f := (75, [some (.ref 0), some (.int x1), some (.int x2), some (.int x3), some (.int x4), some (.int x5), some (.int x6), some (.int ((x3 - x2) + 1)), some (.int 0), none, none, none, none, none], [], σ)) rfl ?_
                refine go_e (L1 := [some (.ref 0), some (.int x1), some (.int x2), none, some (.int x4), some (.int x5), some (.int x6), some (.int ((x3 - x2) + 1)), some (.int 0), none, none, none, none, none]) rfl rfl ?_
                exact fX0_plan_L75_ok _ _ _ _ _ _   N0 _ _ _ hf
              · rw [if_neg h19] at hf
                refine go_if (t := 65) (f := 63) (L1 := [some (.ref 0), some (.int x1), some (.int x2), some (.int x3), some (.int x4), some (.int x5), some (.int x6), none, none, none, none, none, none, none]) (st1 := []) (σ1 := σ) rfl h19 ?_
                refine go_e (L1 := [none, none, none, none, none, none, none, none, none, none, none, none, none, none]) rfl rfl ?_
                refine go_n 1 (f := (64, [none, none, none, none, none, none, none, none, none, none, none, none, none, none], [.int (-1)], σ)) rfl ?_
                cases hf
                exact go_r rfl
/-! OldWeather.joined(IIII)I -/
def fX0_joined (x1 : Int32) (x2 : Int32) (x3 : Int32) (x4 : Int32) (σ : Sg) : Option (Int32 × Sg) :=
  (fX0_isPlace x1 σ).bind fun q1 => if q1 = 0 then some ((-100000), σ) else (fX0_isDay x2).bind fun q4 => if q4 = 0 then some ((-100000), σ) else (fX0_isDesk x3).bind fun q7 => if q7 = 0 then some ((-100000), σ) else (fX0_in x4 0 4).bind fun q10 => if q10 ≠ 0 then (fX0_joins x1 x2 x3 (-1) 0 σ).bind fun q13 => (fX0_tells x4 q13).bind fun q15 => some (q15, q13) else some ((-100000), σ)
set_option maxHeartbeats 1500000 in
theorem fX0_joined_ok (x1 : Int32) (x2 : Int32) (x3 : Int32) (x4 : Int32) (σ : Sg) (r : (Int32 × Sg)) (hf : fX0_joined x1 x2 x3 x4 σ = some r) : Cl true 3249 5182 [.ref 0, .int x1, .int x2, .int x3, .int x4] σ (.inl (some (.int (r).1)), (r).2) := by
  refine ⟨iX0_joined, rfl, Nat.le_of_ble_eq_true rfl, Nat.le_of_ble_eq_true rfl, ?_⟩
  show Go true 3249 iX0_joined (0, [some (.ref 0), some (.int x1), some (.int x2), some (.int x3), some (.int x4)], [], σ) (.inl (some (.int (r).1)), (r).2)
  unfold fX0_joined at hf
  refine go_n 2 (f := (2, [some (.ref 0), some (.int x1), some (.int x2), some (.int x3), some (.int x4)], [.int x1, .ref 0], σ)) rfl ?_
  obtain ⟨q1, h2, hf⟩ := bnd hf
  refine go_c (mid := 5139) (args := [.ref 0, .int x1]) (pc := 5) (L := [some (.ref 0), some (.int x1), some (.int x2), some (.int x3), some (.int x4)]) (st := []) (σ := σ) rfl ((fX0_isPlace_ok _ _ q1 h2).deep (Nat.le_of_ble_eq_true rfl)) ?_
  by_cases h3 : q1 = 0
  · rw [if_pos h3] at hf
    refine go_it (t := 32) (f := 8) (L1 := [some (.ref 0), some (.int x1), some (.int x2), some (.int x3), some (.int x4)]) (st1 := []) (σ1 := σ) rfl h3 ?_
    refine go_e (L1 := [none, none, none, none, none]) rfl rfl ?_
    refine go_n 1 (f := (35, [none, none, none, none, none], [.int (-100000)], σ)) rfl ?_
    cases hf
    exact go_r rfl
  · rw [if_neg h3] at hf
    refine go_if (t := 32) (f := 8) (L1 := [some (.ref 0), some (.int x1), some (.int x2), some (.int x3), some (.int x4)]) (st1 := []) (σ1 := σ) rfl h3 ?_
    refine go_n 1 (f := (9, [some (.ref 0), some (.int x1), some (.int x2), some (.int x3), some (.int x4)], [.int x2], σ)) rfl ?_
    obtain ⟨q4, h5, hf⟩ := bnd hf
    refine go_c (mid := 5128) (args := [.int x2]) (pc := 12) (L := [some (.ref 0), some (.int x1), some (.int x2), some (.int x3), some (.int x4)]) (st := []) (σ := σ) rfl ((fX0_isDay_ok _ _ q4 h5).deep (Nat.le_of_ble_eq_true rfl)) ?_
    by_cases h6 : q4 = 0
    · rw [if_pos h6] at hf
      refine go_it (t := 32) (f := 15) (L1 := [some (.ref 0), some (.int x1), some (.int x2), some (.int x3), some (.int x4)]) (st1 := []) (σ1 := σ) rfl h6 ?_
      refine go_e (L1 := [none, none, none, none, none]) rfl rfl ?_
      refine go_n 1 (f := (35, [none, none, none, none, none], [.int (-100000)], σ)) rfl ?_
      cases hf
      exact go_r rfl
    · rw [if_neg h6] at hf
      refine go_if (t := 32) (f := 15) (L1 := [some (.ref 0), some (.int x1), some (.int x2), some (.int x3), some (.int x4)]) (st1 := []) (σ1 := σ) rfl h6 ?_
      refine go_n 1 (f := (16, [some (.ref 0), some (.int x1), some (.int x2), some (.int x3), some (.int x4)], [.int x3], σ)) rfl ?_
      obtain ⟨q7, h8, hf⟩ := bnd hf
      refine go_c (mid := 5147) (args := [.int x3]) (pc := 19) (L := [some (.ref 0), some (.int x1), some (.int x2), some (.int x3), some (.int x4)]) (st := []) (σ := σ) rfl ((fX0_isDesk_ok _ _ q7 h8).deep (Nat.le_of_ble_eq_true rfl)) ?_
      by_cases h9 : q7 = 0
      · rw [if_pos h9] at hf
        refine go_it (t := 32) (f := 22) (L1 := [some (.ref 0), some (.int x1), some (.int x2), some (.int x3), some (.int x4)]) (st1 := []) (σ1 := σ) rfl h9 ?_
        refine go_e (L1 := [none, none, none, none, none]) rfl rfl ?_
        refine go_n 1 (f := (35, [none, none, none, none, none], [.int (-100000)], σ)) rfl ?_
        cases hf
        exact go_r rfl
      · rw [if_neg h9] at hf
        refine go_if (t := 32) (f := 22) (L1 := [some (.ref 0), some (.int x1), some (.int x2), some (.int x3), some (.int x4)]) (st1 := []) (σ1 := σ) rfl h9 ?_
        refine go_n 3 (f := (26, [some (.ref 0), some (.int x1), some (.int x2), some (.int x3), some (.int x4)], [.int 4, .int 0, .int x4], σ)) rfl ?_
        obtain ⟨q10, h11, hf⟩ := bnd hf
        refine go_c (mid := 5122) (args := [.int x4, .int 0, .int 4]) (pc := 29) (L := [some (.ref 0), some (.int x1), some (.int x2), some (.int x3), some (.int x4)]) (st := []) (σ := σ) rfl ((fX0_in_ok _ _ _ _ q10 h11).deep (Nat.le_of_ble_eq_true rfl)) ?_
        by_cases h12 : q10 ≠ 0
        · rw [if_pos h12] at hf
          refine go_it (t := 36) (f := 32) (L1 := [some (.ref 0), some (.int x1), some (.int x2), some (.int x3), some (.int x4)]) (st1 := []) (σ1 := σ) rfl h12 ?_
          refine go_n 6 (f := (42, [some (.ref 0), some (.int x1), some (.int x2), some (.int x3), some (.int x4)], [.int 0, .int (-1), .int x3, .int x2, .int x1, .ref 0], σ)) rfl ?_
          obtain ⟨q13, h14, hf⟩ := bnd hf
          refine go_c (mid := 5183) (args := [.ref 0, .int x1, .int x2, .int x3, .int (-1), .int 0]) (pc := 45) (L := [some (.ref 0), some (.int x1), some (.int x2), some (.int x3), some (.int x4)]) (st := []) (σ := σ) rfl ((fX0_joins_ok _ _ _ _ _ _ q13 h14).deep (Nat.le_of_ble_eq_true rfl)) ?_
          refine go_n 2 (f := (48, [some (.ref 0), some (.int x1), some (.int x2), some (.int x3), some (.int x4)], [.int x4, .ref 0], q13)) rfl ?_
          obtain ⟨q15, h16, hf⟩ := bnd hf
          refine go_c (mid := 5185) (args := [.ref 0, .int x4]) (pc := 51) (L := [some (.ref 0), some (.int x1), some (.int x2), some (.int x3), some (.int x4)]) (st := []) (σ := q13) rfl ((fX0_tells_ok _ _ q15 h16).deep (Nat.le_of_ble_eq_true rfl)) ?_
          cases hf
          exact go_r rfl
        · rw [if_neg h12] at hf
          refine go_if (t := 36) (f := 32) (L1 := [some (.ref 0), some (.int x1), some (.int x2), some (.int x3), some (.int x4)]) (st1 := []) (σ1 := σ) rfl h12 ?_
          refine go_e (L1 := [none, none, none, none, none]) rfl rfl ?_
          refine go_n 1 (f := (35, [none, none, none, none, none], [.int (-100000)], σ)) rfl ?_
          cases hf
          exact go_r rfl
/-! OldWeather.winter(IIII)I -/
def fX0_winter (x1 : Int32) (x2 : Int32) (x3 : Int32) (x4 : Int32) (σ : Sg) : Option (Int32 × Sg) :=
  (fX0_isPlace x1 σ).bind fun q1 => if q1 = 0 then some ((-1000000), σ) else (fX0_isYear x2).bind fun q4 => if q4 = 0 then some ((-1000000), σ) else (fX0_isDesk x3).bind fun q7 => if q7 = 0 then some ((-1000000), σ) else (fX0_in x4 0 2).bind fun q10 => if q10 ≠ 0 then (fX0_winters x1 x2 x3 σ).bind fun q13 => ((fun (z17 : Int32) => some (z17, q13)) (if x4 ≠ 0 then (if x4 ≠ 1 then (gl q13 0 46).toInt32 else (gl q13 0 45).toInt32) else (gi q13 0 44))) else some ((-1000000), σ)
set_option maxHeartbeats 1500000 in
theorem fX0_winter_ok (x1 : Int32) (x2 : Int32) (x3 : Int32) (x4 : Int32) (σ : Sg) (r : (Int32 × Sg)) (hf : fX0_winter x1 x2 x3 x4 σ = some r) : Cl true 3250 5201 [.ref 0, .int x1, .int x2, .int x3, .int x4] σ (.inl (some (.int (r).1)), (r).2) := by
  refine ⟨iX0_winter, rfl, Nat.le_of_ble_eq_true rfl, Nat.le_of_ble_eq_true rfl, ?_⟩
  show Go true 3250 iX0_winter (0, [some (.ref 0), some (.int x1), some (.int x2), some (.int x3), some (.int x4)], [], σ) (.inl (some (.int (r).1)), (r).2)
  unfold fX0_winter at hf
  refine go_n 2 (f := (2, [some (.ref 0), some (.int x1), some (.int x2), some (.int x3), some (.int x4)], [.int x1, .ref 0], σ)) rfl ?_
  obtain ⟨q1, h2, hf⟩ := bnd hf
  refine go_c (mid := 5139) (args := [.ref 0, .int x1]) (pc := 5) (L := [some (.ref 0), some (.int x1), some (.int x2), some (.int x3), some (.int x4)]) (st := []) (σ := σ) rfl ((fX0_isPlace_ok _ _ q1 h2).deep (Nat.le_of_ble_eq_true rfl)) ?_
  by_cases h3 : q1 = 0
  · rw [if_pos h3] at hf
    refine go_it (t := 32) (f := 8) (L1 := [some (.ref 0), some (.int x1), some (.int x2), some (.int x3), some (.int x4)]) (st1 := []) (σ1 := σ) rfl h3 ?_
    refine go_e (L1 := [none, none, none, none, none]) rfl rfl ?_
    refine go_n 1 (f := (35, [none, none, none, none, none], [.int (-1000000)], σ)) rfl ?_
    cases hf
    exact go_r rfl
  · rw [if_neg h3] at hf
    refine go_if (t := 32) (f := 8) (L1 := [some (.ref 0), some (.int x1), some (.int x2), some (.int x3), some (.int x4)]) (st1 := []) (σ1 := σ) rfl h3 ?_
    refine go_n 1 (f := (9, [some (.ref 0), some (.int x1), some (.int x2), some (.int x3), some (.int x4)], [.int x2], σ)) rfl ?_
    obtain ⟨q4, h5, hf⟩ := bnd hf
    refine go_c (mid := 5202) (args := [.int x2]) (pc := 12) (L := [some (.ref 0), some (.int x1), some (.int x2), some (.int x3), some (.int x4)]) (st := []) (σ := σ) rfl ((fX0_isYear_ok _ _ q4 h5).deep (Nat.le_of_ble_eq_true rfl)) ?_
    by_cases h6 : q4 = 0
    · rw [if_pos h6] at hf
      refine go_it (t := 32) (f := 15) (L1 := [some (.ref 0), some (.int x1), some (.int x2), some (.int x3), some (.int x4)]) (st1 := []) (σ1 := σ) rfl h6 ?_
      refine go_e (L1 := [none, none, none, none, none]) rfl rfl ?_
      refine go_n 1 (f := (35, [none, none, none, none, none], [.int (-1000000)], σ)) rfl ?_
      cases hf
      exact go_r rfl
    · rw [if_neg h6] at hf
      refine go_if (t := 32) (f := 15) (L1 := [some (.ref 0), some (.int x1), some (.int x2), some (.int x3), some (.int x4)]) (st1 := []) (σ1 := σ) rfl h6 ?_
      refine go_n 1 (f := (16, [some (.ref 0), some (.int x1), some (.int x2), some (.int x3), some (.int x4)], [.int x3], σ)) rfl ?_
      obtain ⟨q7, h8, hf⟩ := bnd hf
      refine go_c (mid := 5147) (args := [.int x3]) (pc := 19) (L := [some (.ref 0), some (.int x1), some (.int x2), some (.int x3), some (.int x4)]) (st := []) (σ := σ) rfl ((fX0_isDesk_ok _ _ q7 h8).deep (Nat.le_of_ble_eq_true rfl)) ?_
      by_cases h9 : q7 = 0
      · rw [if_pos h9] at hf
        refine go_it (t := 32) (f := 22) (L1 := [some (.ref 0), some (.int x1), some (.int x2), some (.int x3), some (.int x4)]) (st1 := []) (σ1 := σ) rfl h9 ?_
        refine go_e (L1 := [none, none, none, none, none]) rfl rfl ?_
        refine go_n 1 (f := (35, [none, none, none, none, none], [.int (-1000000)], σ)) rfl ?_
        cases hf
        exact go_r rfl
      · rw [if_neg h9] at hf
        refine go_if (t := 32) (f := 22) (L1 := [some (.ref 0), some (.int x1), some (.int x2), some (.int x3), some (.int x4)]) (st1 := []) (σ1 := σ) rfl h9 ?_
        refine go_n 3 (f := (26, [some (.ref 0), some (.int x1), some (.int x2), some (.int x3), some (.int x4)], [.int 2, .int 0, .int x4], σ)) rfl ?_
        obtain ⟨q10, h11, hf⟩ := bnd hf
        refine go_c (mid := 5122) (args := [.int x4, .int 0, .int 2]) (pc := 29) (L := [some (.ref 0), some (.int x1), some (.int x2), some (.int x3), some (.int x4)]) (st := []) (σ := σ) rfl ((fX0_in_ok _ _ _ _ q10 h11).deep (Nat.le_of_ble_eq_true rfl)) ?_
        by_cases h12 : q10 ≠ 0
        · rw [if_pos h12] at hf
          refine go_it (t := 36) (f := 32) (L1 := [some (.ref 0), some (.int x1), some (.int x2), some (.int x3), some (.int x4)]) (st1 := []) (σ1 := σ) rfl h12 ?_
          refine go_n 4 (f := (40, [some (.ref 0), some (.int x1), some (.int x2), some (.int x3), some (.int x4)], [.int x3, .int x2, .int x1, .ref 0], σ)) rfl ?_
          obtain ⟨q13, h14, hf⟩ := bnd hf
          refine go_c (mid := 5203) (args := [.ref 0, .int x1, .int x2, .int x3]) (pc := 43) (L := [some (.ref 0), some (.int x1), some (.int x2), some (.int x3), some (.int x4)]) (st := []) (σ := σ) rfl ((fX0_winters_ok _ _ _ _ q13 h14).deep (Nat.le_of_ble_eq_true rfl)) ?_
          refine go_n 1 (f := (45, [some (.ref 0), some (.int x1), some (.int x2), some (.int x3), some (.int x4)], [.int x4], q13)) rfl ?_
          refine go_m (f := (73, [none, none, none, none, none], [.int (if x4 ≠ 0 then (if x4 ≠ 1 then (gl q13 0 46).toInt32 else (gl q13 0 45).toInt32) else (gi q13 0 44))], q13)) ?_ (fun hJ18 => ?_)
          · generalize hz17 : (if x4 ≠ 0 then (if x4 ≠ 1 then (gl q13 0 46).toInt32 else (gl q13 0 45).toInt32) else (gi q13 0 44)) = z17 at hf ⊢
            try dsimp only at hf
            cases hf
            exact go_r rfl
          · by_cases h15 : x4 ≠ 0
            · refine go_it (t := 55) (f := 48) (L1 := [some (.ref 0), some (.int x1), some (.int x2), some (.int x3), some (.int x4)]) (st1 := []) (σ1 := q13) rfl h15 ?_
              refine go_n 2 (f := (58, [some (.ref 0), some (.int x1), some (.int x2), some (.int x3), some (.int x4)], [.int 1, .int x4], q13)) rfl ?_
              by_cases h16 : x4 ≠ 1
              · refine go_it (t := 68) (f := 61) (L1 := [some (.ref 0), some (.int x1), some (.int x2), some (.int x3), some (.int x4)]) (st1 := []) (σ1 := q13) rfl h16 ?_
                refine go_n 2 (f := (72, [some (.ref 0), some (.int x1), some (.int x2), some (.int x3), some (.int x4)], [.long (gl q13 0 46)], q13)) rfl ?_
                refine go_e (L1 := [none, none, none, none, none]) rfl rfl ?_
                refine go_n 1 (f := (73, [none, none, none, none, none], [.int (gl q13 0 46).toInt32], q13)) rfl ?_
                refine go_e (L1 := [none, none, none, none, none]) rfl rfl ?_
                simp only [if_pos h15, if_pos h16] at hJ18
                first | exact hJ18 | (simp only [if_pos h15, if_pos h16]; exact hJ18)
              · refine go_if (t := 68) (f := 61) (L1 := [some (.ref 0), some (.int x1), some (.int x2), some (.int x3), some (.int x4)]) (st1 := []) (σ1 := q13) rfl h16 ?_
                refine go_n 3 (f := (72, [some (.ref 0), some (.int x1), some (.int x2), some (.int x3), some (.int x4)], [.long (gl q13 0 45)], q13)) rfl ?_
                refine go_e (L1 := [none, none, none, none, none]) rfl rfl ?_
                refine go_n 1 (f := (73, [none, none, none, none, none], [.int (gl q13 0 45).toInt32], q13)) rfl ?_
                refine go_e (L1 := [none, none, none, none, none]) rfl rfl ?_
                simp only [if_pos h15, if_neg h16] at hJ18
                first | exact hJ18 | (simp only [if_pos h15, if_neg h16]; exact hJ18)
            · refine go_if (t := 55) (f := 48) (L1 := [some (.ref 0), some (.int x1), some (.int x2), some (.int x3), some (.int x4)]) (st1 := []) (σ1 := q13) rfl h15 ?_
              refine go_n 3 (f := (73, [some (.ref 0), some (.int x1), some (.int x2), some (.int x3), some (.int x4)], [.int (gi q13 0 44)], q13)) rfl ?_
              refine go_e (L1 := [none, none, none, none, none]) rfl rfl ?_
              simp only [if_neg h15] at hJ18
              first | exact hJ18 | (simp only [if_neg h15]; exact hJ18)
        · rw [if_neg h12] at hf
          refine go_if (t := 36) (f := 32) (L1 := [some (.ref 0), some (.int x1), some (.int x2), some (.int x3), some (.int x4)]) (st1 := []) (σ1 := σ) rfl h12 ?_
          refine go_e (L1 := [none, none, none, none, none]) rfl rfl ?_
          refine go_n 1 (f := (35, [none, none, none, none, none], [.int (-1000000)], σ)) rfl ?_
          cases hf
          exact go_r rfl
/-! OldWeather.tries(I)V -/
def fX0_tries_J160 (RT : Int32 → Sg → Option Sg) (x2 : Int32) (x3 : Int32)  (σ : Sg) : Option Sg :=
  (am_cpy true (wi (wi σ 0 42 x2) 0 43 x3) 51 0 52 0 (gi σ 0 39)).bind fun q9 => some q9
set_option maxHeartbeats 1500000 in
theorem fX0_tries_J160_ok (RT : Int32 → Sg → Option Sg) (d : Nat) (hRT : ∀ (x1 : Int32) (σ : Sg) (r : Sg), RT x1 σ = some r → Cl true d 5196 [.ref 0, .int x1] σ (.inl none, r)) (x2 : Int32) (x3 : Int32)  (σ : Sg)  (r : Sg) (hf : fX0_tries_J160 RT x2 x3  σ = some r) : Go true (d + 1) iX0_tries (160, [some (.ref 0), none, some (.int x2), some (.int x3), none], [], σ) (.inl none, r) := by
  unfold fX0_tries_J160 at hf
  refine go_n 6 (f := (170, [some (.ref 0), none, some (.int x2), some (.int x3), none], [], (wi (wi σ 0 42 x2) 0 43 x3))) rfl ?_
  refine go_n 8 (f := (184, [some (.ref 0), none, some (.int x2), some (.int x3), none], [.int (gi σ 0 39), .int 0, .ref 52, .int 0, .ref 51], (wi (wi σ 0 42 x2) 0 43 x3))) rfl ?_
  obtain ⟨q9, h8, hf⟩ := bnd hf
  refine go_b (mid := 20001) (args := [.ref 51, .int 0, .ref 52, .int 0, .int (gi σ 0 39)]) (pc := 187) (L := [some (.ref 0), none, some (.int x2), some (.int x3), none]) (st := []) (σ := (wi (wi σ 0 42 x2) 0 43 x3)) rfl (by decide) (am_bi_cpy h8) ?_
  cases hf
  exact go_r rfl
def fX0_tries_J127 (RT : Int32 → Sg → Option Sg) (x2 : Int32) (x3 : Int32)  (σ : Sg) : Option Sg :=
  if (gi σ 0 42) = (-1) then fX0_tries_J160 RT x2 x3  σ else if (gi σ 0 42) < x2 then some σ else if x2 ≠ (gi σ 0 42) then fX0_tries_J160 RT x2 x3  σ else if x3 < (gi σ 0 43) then fX0_tries_J160 RT x2 x3  σ else some σ
set_option maxHeartbeats 1500000 in
theorem fX0_tries_J127_ok (RT : Int32 → Sg → Option Sg) (d : Nat) (hRT : ∀ (x1 : Int32) (σ : Sg) (r : Sg), RT x1 σ = some r → Cl true d 5196 [.ref 0, .int x1] σ (.inl none, r)) (x2 : Int32) (x3 : Int32)  (σ : Sg)  (r : Sg) (hf : fX0_tries_J127 RT x2 x3  σ = some r) : Go true (d + 1) iX0_tries (127, [some (.ref 0), none, some (.int x2), some (.int x3), none], [], σ) (.inl none, r) := by
  unfold fX0_tries_J127 at hf
  refine go_n 3 (f := (132, [some (.ref 0), none, some (.int x2), some (.int x3), none], [.int (-1), .int (gi σ 0 42)], σ)) rfl ?_
  by_cases h7 : (gi σ 0 42) = (-1)
  · rw [if_pos h7] at hf
    refine go_it (t := 160) (f := 135) (L1 := [some (.ref 0), none, some (.int x2), some (.int x3), none]) (st1 := []) (σ1 := σ) rfl h7 ?_
    exact fX0_tries_J160_ok _ _ hRT _ _  _  _ hf
  · rw [if_neg h7] at hf
    refine go_if (t := 160) (f := 135) (L1 := [some (.ref 0), none, some (.int x2), some (.int x3), none]) (st1 := []) (σ1 := σ) rfl h7 ?_
    refine go_n 3 (f := (140, [some (.ref 0), none, some (.int x2), some (.int x3), none], [.int (gi σ 0 42), .int x2], σ)) rfl ?_
    by_cases h10 : (gi σ 0 42) < x2
    · rw [if_pos h10] at hf
      refine go_it (t := 159) (f := 143) (L1 := [some (.ref 0), none, some (.int x2), some (.int x3), none]) (st1 := []) (σ1 := σ) rfl h10 ?_
      refine go_e (L1 := [none, none, none, none, none]) rfl rfl ?_
      cases hf
      exact go_r rfl
    · rw [if_neg h10] at hf
      refine go_if (t := 159) (f := 143) (L1 := [some (.ref 0), none, some (.int x2), some (.int x3), none]) (st1 := []) (σ1 := σ) rfl h10 ?_
      refine go_n 3 (f := (148, [some (.ref 0), none, some (.int x2), some (.int x3), none], [.int (gi σ 0 42), .int x2], σ)) rfl ?_
      by_cases h11 : x2 ≠ (gi σ 0 42)
      · rw [if_pos h11] at hf
        refine go_it (t := 160) (f := 151) (L1 := [some (.ref 0), none, some (.int x2), some (.int x3), none]) (st1 := []) (σ1 := σ) rfl h11 ?_
        exact fX0_tries_J160_ok _ _ hRT _ _  _  _ hf
      · rw [if_neg h11] at hf
        refine go_if (t := 160) (f := 151) (L1 := [some (.ref 0), none, some (.int x2), some (.int x3), none]) (st1 := []) (σ1 := σ) rfl h11 ?_
        refine go_n 3 (f := (156, [some (.ref 0), none, some (.int x2), some (.int x3), none], [.int (gi σ 0 43), .int x3], σ)) rfl ?_
        by_cases h12 : x3 < (gi σ 0 43)
        · rw [if_pos h12] at hf
          refine go_it (t := 160) (f := 159) (L1 := [some (.ref 0), none, some (.int x2), some (.int x3), none]) (st1 := []) (σ1 := σ) rfl h12 ?_
          exact fX0_tries_J160_ok _ _ hRT _ _  _  _ hf
        · rw [if_neg h12] at hf
          refine go_if (t := 160) (f := 159) (L1 := [some (.ref 0), none, some (.int x2), some (.int x3), none]) (st1 := []) (σ1 := σ) rfl h12 ?_
          refine go_e (L1 := [none, none, none, none, none]) rfl rfl ?_
          cases hf
          exact go_r rfl
def fX0_tries_J122 (RT : Int32 → Sg → Option Sg) (x2 : Int32) (x3 : Int32)  (σ : Sg) : Option Sg :=
  fX0_tries_J127 RT x2 x3  (wi σ 0 41 1)
set_option maxHeartbeats 1500000 in
theorem fX0_tries_J122_ok (RT : Int32 → Sg → Option Sg) (d : Nat) (hRT : ∀ (x1 : Int32) (σ : Sg) (r : Sg), RT x1 σ = some r → Cl true d 5196 [.ref 0, .int x1] σ (.inl none, r)) (x2 : Int32) (x3 : Int32)  (σ : Sg)  (r : Sg) (hf : fX0_tries_J122 RT x2 x3  σ = some r) : Go true (d + 1) iX0_tries (122, [some (.ref 0), none, some (.int x2), some (.int x3), none], [], σ) (.inl none, r) := by
  unfold fX0_tries_J122 at hf
  refine go_n 3 (f := (127, [some (.ref 0), none, some (.int x2), some (.int x3), none], [], (wi σ 0 41 1))) rfl ?_
  exact fX0_tries_J127_ok _ _ hRT _ _  _  _ hf
def fX0_tries_J106 (RT : Int32 → Sg → Option Sg) (x2 : Int32) (x3 : Int32)  (σ : Sg) : Option Sg :=
  if (gi σ 0 42) = (-1) then fX0_tries_J122 RT x2 x3  σ else if (gi σ 0 42) ≤ x2 then fX0_tries_J127 RT x2 x3  σ else fX0_tries_J122 RT x2 x3  σ
set_option maxHeartbeats 1500000 in
theorem fX0_tries_J106_ok (RT : Int32 → Sg → Option Sg) (d : Nat) (hRT : ∀ (x1 : Int32) (σ : Sg) (r : Sg), RT x1 σ = some r → Cl true d 5196 [.ref 0, .int x1] σ (.inl none, r)) (x2 : Int32) (x3 : Int32)  (σ : Sg)  (r : Sg) (hf : fX0_tries_J106 RT x2 x3  σ = some r) : Go true (d + 1) iX0_tries (106, [some (.ref 0), none, some (.int x2), some (.int x3), none], [], σ) (.inl none, r) := by
  unfold fX0_tries_J106 at hf
  refine go_n 3 (f := (111, [some (.ref 0), none, some (.int x2), some (.int x3), none], [.int (-1), .int (gi σ 0 42)], σ)) rfl ?_
  by_cases h6 : (gi σ 0 42) = (-1)
  · rw [if_pos h6] at hf
    refine go_it (t := 122) (f := 114) (L1 := [some (.ref 0), none, some (.int x2), some (.int x3), none]) (st1 := []) (σ1 := σ) rfl h6 ?_
    exact fX0_tries_J122_ok _ _ hRT _ _  _  _ hf
  · rw [if_neg h6] at hf
    refine go_if (t := 122) (f := 114) (L1 := [some (.ref 0), none, some (.int x2), some (.int x3), none]) (st1 := []) (σ1 := σ) rfl h6 ?_
    refine go_n 3 (f := (119, [some (.ref 0), none, some (.int x2), some (.int x3), none], [.int (gi σ 0 42), .int x2], σ)) rfl ?_
    by_cases h13 : (gi σ 0 42) ≤ x2
    · rw [if_pos h13] at hf
      refine go_it (t := 127) (f := 122) (L1 := [some (.ref 0), none, some (.int x2), some (.int x3), none]) (st1 := []) (σ1 := σ) rfl h13 ?_
      exact fX0_tries_J127_ok _ _ hRT _ _  _  _ hf
    · rw [if_neg h13] at hf
      refine go_if (t := 127) (f := 122) (L1 := [some (.ref 0), none, some (.int x2), some (.int x3), none]) (st1 := []) (σ1 := σ) rfl h13 ?_
      exact fX0_tries_J122_ok _ _ hRT _ _  _  _ hf
def fX0_tries_L47 (RT : Int32 → Sg → Option Sg) (x2 : Int32) (σ : Sg)  (rec47 : (Int32 × Int32) → Option Sg) (s : Int32 × Int32) : Option Sg :=
  match s with
  | (x3, x4) => if (gi σ 0 39) ≤ x4 then if (gi σ 0 42) = (-1) then fX0_tries_J106 RT x2 x3  σ else if x2 ≠ (gi σ 0 42) then fX0_tries_J106 RT x2 x3  σ else fX0_tries_J106 RT x2 x3  (wi σ 0 41 ((gi σ 0 41) + 1)) else if inb x4 5 then ((fun (z17 : Int32) => rec47 ((x3 + z17), (x4 + 1))) ((if (gi σ 51 x4.toNatClampNeg) ≤ 0 then 0 else 1) : Int32)) else none
set_option maxHeartbeats 1500000 in
theorem fX0_tries_L47_ok (RT : Int32 → Sg → Option Sg) (d : Nat) (hRT : ∀ (x1 : Int32) (σ : Sg) (r : Sg), RT x1 σ = some r → Cl true d 5196 [.ref 0, .int x1] σ (.inl none, r)) (x2 : Int32) (σ : Sg)   : ∀ (n : Nat) (x3 : Int32) (x4 : Int32) (r : Sg), lp (fX0_tries_L47 RT x2 σ ) n (x3, x4) = some r → Go true (d + 1) iX0_tries (47, [some (.ref 0), none, some (.int x2), some (.int x3), some (.int x4)], [], σ) (.inl none, r) := by
  intro n
  induction n with
  | zero => intro x3 x4 r hf; cases hf
  | succ n ih =>
    intro x3 x4 r hf
    have hf : fX0_tries_L47 RT x2 σ  (lp (fX0_tries_L47 RT x2 σ ) n) (x3, x4) = some r := hf
    have hrec47 := ih
    generalize lp (fX0_tries_L47 RT x2 σ ) n = rec47 at hf hrec47
    unfold fX0_tries_L47 at hf
    dsimp only at hf
    refine go_n 3 (f := (53, [some (.ref 0), none, some (.int x2), some (.int x3), some (.int x4)], [.int (gi σ 0 39), .int x4], σ)) rfl ?_
    by_cases h4 : (gi σ 0 39) ≤ x4
    · rw [if_pos h4] at hf
      refine go_it (t := 80) (f := 56) (L1 := [some (.ref 0), none, some (.int x2), some (.int x3), some (.int x4)]) (st1 := []) (σ1 := σ) rfl h4 ?_
      refine go_n 3 (f := (85, [some (.ref 0), none, some (.int x2), some (.int x3), some (.int x4)], [.int (-1), .int (gi σ 0 42)], σ)) rfl ?_
      by_cases h5 : (gi σ 0 42) = (-1)
      · rw [if_pos h5] at hf
        refine go_it (t := 106) (f := 88) (L1 := [some (.ref 0), none, some (.int x2), some (.int x3), some (.int x4)]) (st1 := []) (σ1 := σ) rfl h5 ?_
        refine go_e (L1 := [some (.ref 0), none, some (.int x2), some (.int x3), none]) rfl rfl ?_
        exact fX0_tries_J106_ok _ _ hRT _ _  _  _ hf
      · rw [if_neg h5] at hf
        refine go_if (t := 106) (f := 88) (L1 := [some (.ref 0), none, some (.int x2), some (.int x3), some (.int x4)]) (st1 := []) (σ1 := σ) rfl h5 ?_
        refine go_n 3 (f := (93, [some (.ref 0), none, some (.int x2), some (.int x3), some (.int x4)], [.int (gi σ 0 42), .int x2], σ)) rfl ?_
        by_cases h14 : x2 ≠ (gi σ 0 42)
        · rw [if_pos h14] at hf
          refine go_it (t := 106) (f := 96) (L1 := [some (.ref 0), none, some (.int x2), some (.int x3), some (.int x4)]) (st1 := []) (σ1 := σ) rfl h14 ?_
          refine go_e (L1 := [some (.ref 0), none, some (.int x2), some (.int x3), none]) rfl rfl ?_
          exact fX0_tries_J106_ok _ _ hRT _ _  _  _ hf
        · rw [if_neg h14] at hf
          refine go_if (t := 106) (f := 96) (L1 := [some (.ref 0), none, some (.int x2), some (.int x3), some (.int x4)]) (st1 := []) (σ1 := σ) rfl h14 ?_
          refine go_n 6 (f := (106, [some (.ref 0), none, some (.int x2), some (.int x3), some (.int x4)], [], (wi σ 0 41 ((gi σ 0 41) + 1)))) rfl ?_
          refine go_e (L1 := [some (.ref 0), none, some (.int x2), some (.int x3), none]) rfl rfl ?_
          exact fX0_tries_J106_ok _ _ hRT _ _  _  _ hf
    · rw [if_neg h4] at hf
      refine go_if (t := 80) (f := 56) (L1 := [some (.ref 0), none, some (.int x2), some (.int x3), some (.int x4)]) (st1 := []) (σ1 := σ) rfl h4 ?_
      refine go_n 4 (f := (63, [some (.ref 0), none, some (.int x2), some (.int x3), some (.int x4)], [.int x4, .ref 51, .int x3], σ)) rfl ?_
      obtain ⟨h15, hf⟩ := grd hf
      refine go_iald rfl rfl rfl h15 ?_
      refine go_m (f := (72, [some (.ref 0), none, some (.int x2), none, some (.int x4)], [.int ((if (gi σ 51 x4.toNatClampNeg) ≤ 0 then 0 else 1) : Int32), .int x3], σ)) ?_ (fun hJ18 => ?_)
      · generalize hz17 : ((if (gi σ 51 x4.toNatClampNeg) ≤ 0 then 0 else 1) : Int32) = z17 at hf ⊢
        have oz17 : am_ok 3 z17 = true := hz17 ▸ (okb rfl rfl)
        try dsimp only at hf
        refine go_n 3 (f := (77, [some (.ref 0), none, some (.int x2), some (.int (x3 + z17)), some (.int (x4 + 1))], [], σ)) rfl ?_
        refine go_n 1 (f := (47, [some (.ref 0), none, some (.int x2), some (.int (x3 + z17)), some (.int (x4 + 1))], [], σ)) rfl ?_
        exact hrec47 _ _ _ hf
      · by_cases h16 : (gi σ 51 x4.toNatClampNeg) ≤ 0
        · refine go_it (t := 71) (f := 67) (L1 := [some (.ref 0), none, some (.int x2), some (.int x3), some (.int x4)]) (st1 := [.int x3]) (σ1 := σ) rfl h16 ?_
          refine go_n 1 (f := (72, [some (.ref 0), none, some (.int x2), some (.int x3), some (.int x4)], [.int 0, .int x3], σ)) rfl ?_
          refine go_e (L1 := [some (.ref 0), none, some (.int x2), none, some (.int x4)]) rfl rfl ?_
          simp only [if_pos h16] at hJ18
          first | exact hJ18 | (simp only [if_pos h16]; exact hJ18)
        · refine go_if (t := 71) (f := 67) (L1 := [some (.ref 0), none, some (.int x2), some (.int x3), some (.int x4)]) (st1 := [.int x3]) (σ1 := σ) rfl h16 ?_
          refine go_n 2 (f := (72, [some (.ref 0), none, some (.int x2), some (.int x3), some (.int x4)], [.int 1, .int x3], σ)) rfl ?_
          refine go_e (L1 := [some (.ref 0), none, some (.int x2), none, some (.int x4)]) rfl rfl ?_
          simp only [if_neg h16] at hJ18
          first | exact hJ18 | (simp only [if_neg h16]; exact hJ18)
def fX0_tries_L10 (RT : Int32 → Sg → Option Sg) (x1 : Int32)  (rec10 : (Int32 × Sg) → Option Sg) (s : Int32 × Sg) : Option Sg :=
  match s with
  | (x2, σ) => if 9 ≤ x2 then some σ else if inb x1 5 then (RT (x1 + 1) (wi σ 51 x1.toNatClampNeg x2)).bind fun q21 => rec10 ((x2 + 1), q21) else none
set_option maxHeartbeats 1500000 in
theorem fX0_tries_L10_ok (RT : Int32 → Sg → Option Sg) (d : Nat) (hRT : ∀ (x1 : Int32) (σ : Sg) (r : Sg), RT x1 σ = some r → Cl true d 5196 [.ref 0, .int x1] σ (.inl none, r)) (x1 : Int32)   : ∀ (n : Nat) (x2 : Int32) (σ : Sg) (r : Sg), lp (fX0_tries_L10 RT x1 ) n (x2, σ) = some r → Go true (d + 1) iX0_tries (10, [some (.ref 0), some (.int x1), some (.int x2), none, none], [], σ) (.inl none, r) := by
  intro n
  induction n with
  | zero => intro x2 σ r hf; cases hf
  | succ n ih =>
    intro x2 σ r hf
    have hf : fX0_tries_L10 RT x1  (lp (fX0_tries_L10 RT x1 ) n) (x2, σ) = some r := hf
    have hrec10 := ih
    generalize lp (fX0_tries_L10 RT x1 ) n = rec10 at hf hrec10
    unfold fX0_tries_L10 at hf
    dsimp only at hf
    refine go_n 2 (f := (13, [some (.ref 0), some (.int x1), some (.int x2), none, none], [.int 9, .int x2], σ)) rfl ?_
    by_cases h19 : 9 ≤ x2
    · rw [if_pos h19] at hf
      refine go_it (t := 36) (f := 16) (L1 := [some (.ref 0), some (.int x1), some (.int x2), none, none]) (st1 := []) (σ1 := σ) rfl h19 ?_
      cases hf
      exact go_r rfl
    · rw [if_neg h19] at hf
      refine go_if (t := 36) (f := 16) (L1 := [some (.ref 0), some (.int x1), some (.int x2), none, none]) (st1 := []) (σ1 := σ) rfl h19 ?_
      refine go_n 4 (f := (22, [some (.ref 0), some (.int x1), some (.int x2), none, none], [.int x2, .int x1, .ref 51], σ)) rfl ?_
      obtain ⟨h20, hf⟩ := grd hf
      refine go_iast rfl rfl rfl h20 ?_
      refine go_n 4 (f := (27, [some (.ref 0), some (.int x1), some (.int x2), none, none], [.int (x1 + 1), .ref 0], (wi σ 51 x1.toNatClampNeg x2))) rfl ?_
      obtain ⟨q21, h22, hf⟩ := bnd hf
      refine go_c (mid := 5196) (args := [.ref 0, .int (x1 + 1)]) (pc := 30) (L := [some (.ref 0), some (.int x1), some (.int x2), none, none]) (st := []) (σ := (wi σ 51 x1.toNatClampNeg x2)) rfl ((hRT _ _ q21 h22).deep (by omega)) ?_
      refine go_n 2 (f := (10, [some (.ref 0), some (.int x1), some (.int (x2 + 1)), none, none], [], q21)) rfl ?_
      exact hrec10 _ _ _ hf
def fX0_tries (RT : Int32 → Sg → Option Sg) (x1 : Int32) (σ : Sg) : Option Sg :=
  if (gi σ 0 39) ≤ x1 then (fX0_quarrelsOfRow  σ).bind fun q2 => lp (fX0_tries_L47 RT q2 σ ) N0 (0, 0) else lp (fX0_tries_L10 RT x1 ) N0 (0, σ)
set_option maxHeartbeats 1500000 in
theorem fX0_tries_ok (RT : Int32 → Sg → Option Sg) (d : Nat) (hRT : ∀ (x1 : Int32) (σ : Sg) (r : Sg), RT x1 σ = some r → Cl true d 5196 [.ref 0, .int x1] σ (.inl none, r)) (x1 : Int32) (σ : Sg) (r : Sg) (hf : fX0_tries RT x1 σ = some r) : Cl true (d + 1) 5196 [.ref 0, .int x1] σ (.inl none, r) := by
  refine ⟨iX0_tries, rfl, Nat.le_of_ble_eq_true rfl, Nat.le_of_ble_eq_true rfl, ?_⟩
  show Go true (d + 1) iX0_tries (0, [some (.ref 0), some (.int x1), none, none, none], [], σ) (.inl none, r)
  unfold fX0_tries at hf
  refine go_n 3 (f := (5, [some (.ref 0), some (.int x1), none, none, none], [.int (gi σ 0 39), .int x1], σ)) rfl ?_
  by_cases h1 : (gi σ 0 39) ≤ x1
  · rw [if_pos h1] at hf
    refine go_it (t := 37) (f := 8) (L1 := [some (.ref 0), some (.int x1), none, none, none]) (st1 := []) (σ1 := σ) rfl h1 ?_
    refine go_n 1 (f := (38, [some (.ref 0), some (.int x1), none, none, none], [.ref 0], σ)) rfl ?_
    obtain ⟨q2, h3, hf⟩ := bnd hf
    refine go_c (mid := 5197) (args := [.ref 0]) (pc := 41) (L := [some (.ref 0), some (.int x1), none, none, none]) (st := []) (σ := σ) rfl ((fX0_quarrelsOfRow_ok _ q2 h3).deep (by omega)) ?_
    refine go_n 3 (f := (44, [some (.ref 0), some (.int x1), some (.int q2), some (.int 0), none], [], σ)) rfl ?_
    refine go_n 2 (f := (47, [some (.ref 0), some (.int x1), some (.int q2), some (.int 0), some (.int 0)], [], σ)) rfl ?_
    refine go_e (L1 := [some (.ref 0), none, some (.int q2), some (.int 0), some (.int 0)]) rfl rfl ?_
    exact fX0_tries_L47_ok _ _ hRT _ _   N0 _ _ _ hf
  · rw [if_neg h1] at hf
    refine go_if (t := 37) (f := 8) (L1 := [some (.ref 0), some (.int x1), none, none, none]) (st1 := []) (σ1 := σ) rfl h1 ?_
    refine go_n 2 (f := (10, [some (.ref 0), some (.int x1), some (.int 0), none, none], [], σ)) rfl ?_
    exact fX0_tries_L10_ok _ _ hRT _   N0 _ _ _ hf
def rT : Nat → Int32 → Sg → Option Sg
  | 0 => fun _ _ => none
  | n + 1 => fun x1 σ => fX0_tries (rT n) x1 σ
set_option maxHeartbeats 1500000 in
theorem rT_ok : ∀ (n : Nat) (x1 : Int32) (σ : Sg) (r : Sg), rT n x1 σ = some r → Cl true (1 * n) 5196 [.ref 0, .int x1] σ (.inl none, r) := by
  intro n
  induction n with
  | zero => intro x1 σ r h; cases h
  | succ n ih =>
    intro x1 σ r h
    exact (fX0_tries_ok (rT n) (1 * n) ih x1 σ r h).deep (by omega)
/-! OldWeather.best(I)I -/
def fX0_best_L60   (rec60 : (Int32 × Sg) → Option (Int32 × Sg)) (s : Int32 × Sg) : Option (Int32 × Sg) :=
  match s with
  | (x2, σ) => if (gi σ 0 39) ≤ x2 then some ((gi σ 0 42), σ) else if inb x2 5 then if inb x2 5 then if inb (gi σ 52 x2.toNatClampNeg) 9 then if inb (gi σ 50 x2.toNatClampNeg) 16 then rec60 ((x2 + 1), (wi σ 53 (gi σ 50 x2.toNatClampNeg).toNatClampNeg (gi σ 49 (gi σ 52 x2.toNatClampNeg).toNatClampNeg))) else none else none else none else none
set_option maxHeartbeats 1500000 in
theorem fX0_best_L60_ok    : ∀ (n : Nat) (x2 : Int32) (σ : Sg) (r : (Int32 × Sg)), lp (fX0_best_L60  ) n (x2, σ) = some r → Go true 3249 iX0_best (60, [some (.ref 0), none, some (.int x2)], [], σ) (.inl (some (.int (r).1)), (r).2) := by
  intro n
  induction n with
  | zero => intro x2 σ r hf; cases hf
  | succ n ih =>
    intro x2 σ r hf
    have hf : fX0_best_L60   (lp (fX0_best_L60  ) n) (x2, σ) = some r := hf
    have hrec60 := ih
    generalize lp (fX0_best_L60  ) n = rec60 at hf hrec60
    unfold fX0_best_L60 at hf
    dsimp only at hf
    refine go_n 3 (f := (65, [some (.ref 0), none, some (.int x2)], [.int (gi σ 0 39), .int x2], σ)) rfl ?_
    by_cases h9 : (gi σ 0 39) ≤ x2
    · rw [if_pos h9] at hf
      refine go_it (t := 96) (f := 68) (L1 := [some (.ref 0), none, some (.int x2)]) (st1 := []) (σ1 := σ) rfl h9 ?_
      refine go_n 2 (f := (100, [some (.ref 0), none, some (.int x2)], [.int (gi σ 0 42)], σ)) rfl ?_
      cases hf
      exact go_r rfl
    · rw [if_neg h9] at hf
      refine go_if (t := 96) (f := 68) (L1 := [some (.ref 0), none, some (.int x2)]) (st1 := []) (σ1 := σ) rfl h9 ?_
      refine go_n 5 (f := (77, [some (.ref 0), none, some (.int x2)], [.int x2, .ref 50, .ref 53], σ)) rfl ?_
      obtain ⟨h10, hf⟩ := grd hf
      refine go_iald rfl rfl rfl h10 ?_
      refine go_n 5 (f := (87, [some (.ref 0), none, some (.int x2)], [.int x2, .ref 52, .ref 49, .int (gi σ 50 x2.toNatClampNeg), .ref 53], σ)) rfl ?_
      obtain ⟨h11, hf⟩ := grd hf
      refine go_iald rfl rfl rfl h11 ?_
      obtain ⟨h12, hf⟩ := grd hf
      refine go_iald rfl rfl rfl h12 ?_
      obtain ⟨h13, hf⟩ := grd hf
      refine go_iast rfl rfl rfl h13 ?_
      refine go_n 2 (f := (60, [some (.ref 0), none, some (.int (x2 + 1))], [], (wi σ 53 (gi σ 50 x2.toNatClampNeg).toNatClampNeg (gi σ 49 (gi σ 52 x2.toNatClampNeg).toNatClampNeg)))) rfl ?_
      exact hrec60 _ _ _ hf
def fX0_best_L39   (rec39 : (Int32 × Sg) → Option (Int32 × Sg)) (s : Int32 × Sg) : Option (Int32 × Sg) :=
  match s with
  | (x2, σ) => if 16 ≤ x2 then lp (fX0_best_L60  ) N0 (0, σ) else if inb x2 16 then rec39 ((x2 + 1), (wi σ 53 x2.toNatClampNeg 0)) else none
set_option maxHeartbeats 1500000 in
theorem fX0_best_L39_ok    : ∀ (n : Nat) (x2 : Int32) (σ : Sg) (r : (Int32 × Sg)), lp (fX0_best_L39  ) n (x2, σ) = some r → Go true 3249 iX0_best (39, [some (.ref 0), none, some (.int x2)], [], σ) (.inl (some (.int (r).1)), (r).2) := by
  intro n
  induction n with
  | zero => intro x2 σ r hf; cases hf
  | succ n ih =>
    intro x2 σ r hf
    have hf : fX0_best_L39   (lp (fX0_best_L39  ) n) (x2, σ) = some r := hf
    have hrec39 := ih
    generalize lp (fX0_best_L39  ) n = rec39 at hf hrec39
    unfold fX0_best_L39 at hf
    dsimp only at hf
    refine go_n 2 (f := (42, [some (.ref 0), none, some (.int x2)], [.int 16, .int x2], σ)) rfl ?_
    by_cases h8 : 16 ≤ x2
    · rw [if_pos h8] at hf
      refine go_it (t := 58) (f := 45) (L1 := [some (.ref 0), none, some (.int x2)]) (st1 := []) (σ1 := σ) rfl h8 ?_
      refine go_n 2 (f := (60, [some (.ref 0), none, some (.int 0)], [], σ)) rfl ?_
      exact fX0_best_L60_ok    N0 _ _ _ hf
    · rw [if_neg h8] at hf
      refine go_if (t := 58) (f := 45) (L1 := [some (.ref 0), none, some (.int x2)]) (st1 := []) (σ1 := σ) rfl h8 ?_
      refine go_n 4 (f := (51, [some (.ref 0), none, some (.int x2)], [.int 0, .int x2, .ref 53], σ)) rfl ?_
      obtain ⟨h14, hf⟩ := grd hf
      refine go_iast rfl rfl rfl h14 ?_
      refine go_n 2 (f := (39, [some (.ref 0), none, some (.int (x2 + 1))], [], (wi σ 53 x2.toNatClampNeg 0))) rfl ?_
      exact hrec39 _ _ _ hf
def fX0_best (x1 : Int32) (σ : Sg) : Option (Int32 × Sg) :=
  (fX0_isDesk x1).bind fun q1 => if q1 ≠ 0 then (fX0_quarrels x1 σ).bind fun q4 => (rT 8 0 (wi (wi q4 0 42 (-1)) 0 41 0)).bind fun q6 => lp (fX0_best_L39  ) N0 (0, (wi q6 0 40 (gi q6 0 39))) else some ((-1), σ)
set_option maxHeartbeats 1500000 in
theorem fX0_best_ok (x1 : Int32) (σ : Sg) (r : (Int32 × Sg)) (hf : fX0_best x1 σ = some r) : Cl true 3249 5190 [.ref 0, .int x1] σ (.inl (some (.int (r).1)), (r).2) := by
  refine ⟨iX0_best, rfl, Nat.le_of_ble_eq_true rfl, Nat.le_of_ble_eq_true rfl, ?_⟩
  show Go true 3249 iX0_best (0, [some (.ref 0), some (.int x1), none], [], σ) (.inl (some (.int (r).1)), (r).2)
  unfold fX0_best at hf
  refine go_n 1 (f := (1, [some (.ref 0), some (.int x1), none], [.int x1], σ)) rfl ?_
  obtain ⟨q1, h2, hf⟩ := bnd hf
  refine go_c (mid := 5147) (args := [.int x1]) (pc := 4) (L := [some (.ref 0), some (.int x1), none]) (st := []) (σ := σ) rfl ((fX0_isDesk_ok _ _ q1 h2).deep (Nat.le_of_ble_eq_true rfl)) ?_
  by_cases h3 : q1 ≠ 0
  · rw [if_pos h3] at hf
    refine go_it (t := 9) (f := 7) (L1 := [some (.ref 0), some (.int x1), none]) (st1 := []) (σ1 := σ) rfl h3 ?_
    refine go_n 2 (f := (11, [some (.ref 0), some (.int x1), none], [.int x1, .ref 0], σ)) rfl ?_
    obtain ⟨q4, h5, hf⟩ := bnd hf
    refine go_c (mid := 5191) (args := [.ref 0, .int x1]) (pc := 14) (L := [some (.ref 0), some (.int x1), none]) (st := []) (σ := σ) rfl ((fX0_quarrels_ok _ _ q4 h5).deep (Nat.le_of_ble_eq_true rfl)) ?_
    refine go_n 6 (f := (24, [some (.ref 0), some (.int x1), none], [], (wi (wi q4 0 42 (-1)) 0 41 0))) rfl ?_
    refine go_n 2 (f := (26, [some (.ref 0), some (.int x1), none], [.int 0, .ref 0], (wi (wi q4 0 42 (-1)) 0 41 0))) rfl ?_
    obtain ⟨q6, h7, hf⟩ := bnd hf
    refine go_c (mid := 5196) (args := [.ref 0, .int 0]) (pc := 29) (L := [some (.ref 0), some (.int x1), none]) (st := []) (σ := (wi (wi q4 0 42 (-1)) 0 41 0)) rfl ((rT_ok 8 _ _ q6 h7).deep (Nat.le_of_ble_eq_true rfl)) ?_
    refine go_n 6 (f := (39, [some (.ref 0), some (.int x1), some (.int 0)], [], (wi q6 0 40 (gi q6 0 39)))) rfl ?_
    refine go_e (L1 := [some (.ref 0), none, some (.int 0)]) rfl rfl ?_
    exact fX0_best_L39_ok    N0 _ _ _ hf
  · rw [if_neg h3] at hf
    refine go_if (t := 9) (f := 7) (L1 := [some (.ref 0), some (.int x1), none]) (st1 := []) (σ1 := σ) rfl h3 ?_
    refine go_n 1 (f := (8, [some (.ref 0), some (.int x1), none], [.int (-1)], σ)) rfl ?_
    cases hf
    exact go_r rfl
