set_option maxRecDepth 100000
/-! OldWeather.sums(II)V -/
def fX0_sums_J102 (x1 : Int32) (x2 : Int32) (x3 : Int32) (rec21 : (Int32 × Sg) → Option Sg) (σ : Sg) : Option Sg :=
  rec21 ((x3 + 1), σ)
set_option maxHeartbeats 1500000 in
theorem fX0_sums_J102_ok (x1 : Int32) (x2 : Int32) (x3 : Int32) (rec21 : (Int32 × Sg) → Option Sg) (σ : Sg) (hrec21 : ∀ (y3 : Int32) (τ : Sg) (r : Sg), rec21 (y3, τ) = some r → Go true 4 iX0_sums (21, [some (.ref 0), some (.int x1), some (.int x2), some (.int y3)], [], τ) (.inl none, r)) (r : Sg) (hf : fX0_sums_J102 x1 x2 x3 rec21 σ = some r) : Go true 4 iX0_sums (102, [some (.ref 0), some (.int x1), some (.int x2), some (.int x3)], [], σ) (.inl none, r) := by
  unfold fX0_sums_J102 at hf
  refine go_n 2 (f := (21, [some (.ref 0), some (.int x1), some (.int x2), some (.int (x3 + 1))], [], σ)) rfl ?_
  exact hrec21 _ _ _ hf
def fX0_sums_L21 (x1 : Int32) (x2 : Int32)  (rec21 : (Int32 × Sg) → Option Sg) (s : Int32 × Sg) : Option Sg :=
  match s with
  | (x3, σ) => (fJ2_size 2 σ).bind fun q3 => if q3 ≤ x3 then some σ else (fX0_isIn x3 x1 x2 σ).bind fun q6 => if q6 ≠ 0 then if inb x3 200 then if inb x3 200 then fX0_sums_J102 x1 x2 x3 rec21 (wl (wl (wi σ 0 50 ((gi σ 0 50) + 1)) 0 48 ((gl σ 0 48) + (gi σ 18 x3.toNatClampNeg).toInt64)) 0 49 ((gl σ 0 49) + (((gi σ 0 50) + 1).toInt64 * (gi σ 18 x3.toNatClampNeg).toInt64))) else none else none else fX0_sums_J102 x1 x2 x3 rec21 σ
set_option maxHeartbeats 1500000 in
theorem fX0_sums_L21_ok (x1 : Int32) (x2 : Int32)   : ∀ (n : Nat) (x3 : Int32) (σ : Sg) (r : Sg), lp (fX0_sums_L21 x1 x2 ) n (x3, σ) = some r → Go true 4 iX0_sums (21, [some (.ref 0), some (.int x1), some (.int x2), some (.int x3)], [], σ) (.inl none, r) := by
  intro n
  induction n with
  | zero => intro x3 σ r hf; cases hf
  | succ n ih =>
    intro x3 σ r hf
    have hf : fX0_sums_L21 x1 x2  (lp (fX0_sums_L21 x1 x2 ) n) (x3, σ) = some r := hf
    have hrec21 := ih
    generalize lp (fX0_sums_L21 x1 x2 ) n = rec21 at hf hrec21
    unfold fX0_sums_L21 at hf
    dsimp only at hf
    refine go_n 4 (f := (29, [some (.ref 0), some (.int x1), some (.int x2), some (.int x3)], [.ref 2, .int x3], σ)) rfl ?_
    obtain ⟨q3, h4, hf⟩ := bnd hf
    refine go_c (mid := 2821) (args := [.ref 2]) (pc := 32) (L := [some (.ref 0), some (.int x1), some (.int x2), some (.int x3)]) (st := [.int x3]) (σ := σ) rfl ((fJ2_size_ok _ _ q3 h4).deep (Nat.le_of_ble_eq_true rfl)) ?_
    by_cases h5 : q3 ≤ x3
    · rw [if_pos h5] at hf
      refine go_it (t := 108) (f := 35) (L1 := [some (.ref 0), some (.int x1), some (.int x2), some (.int x3)]) (st1 := []) (σ1 := σ) rfl h5 ?_
      cases hf
      exact go_r rfl
    · rw [if_neg h5] at hf
      refine go_if (t := 108) (f := 35) (L1 := [some (.ref 0), some (.int x1), some (.int x2), some (.int x3)]) (st1 := []) (σ1 := σ) rfl h5 ?_
      refine go_n 4 (f := (39, [some (.ref 0), some (.int x1), some (.int x2), some (.int x3)], [.int x2, .int x1, .int x3, .ref 0], σ)) rfl ?_
      obtain ⟨q6, h7, hf⟩ := bnd hf
      refine go_c (mid := 5213) (args := [.ref 0, .int x3, .int x1, .int x2]) (pc := 42) (L := [some (.ref 0), some (.int x1), some (.int x2), some (.int x3)]) (st := []) (σ := σ) rfl ((fX0_isIn_ok _ _ _ _ q6 h7).deep (Nat.le_of_ble_eq_true rfl)) ?_
      by_cases h8 : q6 ≠ 0
      · rw [if_pos h8] at hf
        refine go_it (t := 48) (f := 45) (L1 := [some (.ref 0), some (.int x1), some (.int x2), some (.int x3)]) (st1 := []) (σ1 := σ) rfl h8 ?_
        refine go_n 10 (f := (64, [some (.ref 0), some (.int x1), some (.int x2), some (.int x3)], [.ref 0, .long (gl σ 0 48), .ref 0], (wi σ 0 50 ((gi σ 0 50) + 1)))) rfl ?_
        refine go_n 3 (f := (71, [some (.ref 0), some (.int x1), some (.int x2), some (.int x3)], [.int x3, .ref 18, .long (gl σ 0 48), .ref 0], (wi σ 0 50 ((gi σ 0 50) + 1)))) rfl ?_
        obtain ⟨h9, hf⟩ := grd hf
        refine go_iald rfl rfl rfl h9 ?_
        refine go_n 10 (f := (88, [some (.ref 0), some (.int x1), some (.int x2), some (.int x3)], [.ref 0, .long ((gi σ 0 50) + 1).toInt64, .long (gl σ 0 49), .ref 0], (wl (wi σ 0 50 ((gi σ 0 50) + 1)) 0 48 ((gl σ 0 48) + (gi σ 18 x3.toNatClampNeg).toInt64)))) rfl ?_
        refine go_n 3 (f := (95, [some (.ref 0), some (.int x1), some (.int x2), some (.int x3)], [.int x3, .ref 18, .long ((gi σ 0 50) + 1).toInt64, .long (gl σ 0 49), .ref 0], (wl (wi σ 0 50 ((gi σ 0 50) + 1)) 0 48 ((gl σ 0 48) + (gi σ 18 x3.toNatClampNeg).toInt64)))) rfl ?_
        obtain ⟨h10, hf⟩ := grd hf
        refine go_iald rfl rfl rfl h10 ?_
        refine go_n 4 (f := (102, [some (.ref 0), some (.int x1), some (.int x2), some (.int x3)], [], (wl (wl (wi σ 0 50 ((gi σ 0 50) + 1)) 0 48 ((gl σ 0 48) + (gi σ 18 x3.toNatClampNeg).toInt64)) 0 49 ((gl σ 0 49) + (((gi σ 0 50) + 1).toInt64 * (gi σ 18 x3.toNatClampNeg).toInt64))))) rfl ?_
        exact fX0_sums_J102_ok _ _ _ _ _ hrec21 _ hf
      · rw [if_neg h8] at hf
        refine go_if (t := 48) (f := 45) (L1 := [some (.ref 0), some (.int x1), some (.int x2), some (.int x3)]) (st1 := []) (σ1 := σ) rfl h8 ?_
        refine go_n 1 (f := (102, [some (.ref 0), some (.int x1), some (.int x2), some (.int x3)], [], σ)) rfl ?_
        exact fX0_sums_J102_ok _ _ _ _ _ hrec21 _ hf
def fX0_sums (x1 : Int32) (x2 : Int32) (σ : Sg) : Option Sg :=
  (fX0_dates  σ).bind fun q1 => lp (fX0_sums_L21 x1 x2 ) N0 (0, (wi (wl (wl q1 0 48 0) 0 49 0) 0 50 0))
set_option maxHeartbeats 1500000 in
theorem fX0_sums_ok (x1 : Int32) (x2 : Int32) (σ : Sg) (r : Sg) (hf : fX0_sums x1 x2 σ = some r) : Cl true 4 5212 [.ref 0, .int x1, .int x2] σ (.inl none, r) := by
  refine ⟨iX0_sums, rfl, Nat.le_of_ble_eq_true rfl, Nat.le_of_ble_eq_true rfl, ?_⟩
  show Go true 4 iX0_sums (0, [some (.ref 0), some (.int x1), some (.int x2), none], [], σ) (.inl none, r)
  unfold fX0_sums at hf
  refine go_n 1 (f := (1, [some (.ref 0), some (.int x1), some (.int x2), none], [.ref 0], σ)) rfl ?_
  obtain ⟨q1, h2, hf⟩ := bnd hf
  refine go_c (mid := 5159) (args := [.ref 0]) (pc := 4) (L := [some (.ref 0), some (.int x1), some (.int x2), none]) (st := []) (σ := σ) rfl ((fX0_dates_ok _ q1 h2).deep (Nat.le_of_ble_eq_true rfl)) ?_
  refine go_n 6 (f := (14, [some (.ref 0), some (.int x1), some (.int x2), none], [], (wl (wl q1 0 48 0) 0 49 0))) rfl ?_
  refine go_n 5 (f := (21, [some (.ref 0), some (.int x1), some (.int x2), some (.int 0)], [], (wi (wl (wl q1 0 48 0) 0 49 0) 0 50 0))) rfl ?_
  exact fX0_sums_L21_ok _ _   N0 _ _ _ hf
/-! OldWeather.found(II)I -/
def fX0_found_J167 (x1 : Int32) (x2 : Int32) (x4 : Int64) (x6 : Int64) (x8 : Int32) (x9 : Int32) (rec113 : (Int32 × Int32) → Option (Int32 × Sg)) (σ : Sg) : Option (Int32 × Sg) :=
  rec113 (x8, (x9 + 1))
set_option maxHeartbeats 1500000 in
theorem fX0_found_J167_ok (x1 : Int32) (x2 : Int32) (x4 : Int64) (x6 : Int64) (x8 : Int32) (x9 : Int32) (rec113 : (Int32 × Int32) → Option (Int32 × Sg)) (σ : Sg) (hrec113 : ∀ (y8 : Int32) (y9 : Int32) (r : (Int32 × Sg)), rec113 (y8, y9) = some r → Go true 5 iX0_found (113, [some (.ref 0), some (.int x1), some (.int x2), none, some (.long x4), none, some (.long x6), none, some (.int y8), some (.int y9)], [], σ) (.inl (some (.int (r).1)), (r).2)) (r : (Int32 × Sg)) (hf : fX0_found_J167 x1 x2 x4 x6 x8 x9 rec113 σ = some r) : Go true 5 iX0_found (167, [some (.ref 0), some (.int x1), some (.int x2), none, some (.long x4), none, some (.long x6), none, some (.int x8), some (.int x9)], [], σ) (.inl (some (.int (r).1)), (r).2) := by
  unfold fX0_found_J167 at hf
  refine go_n 2 (f := (113, [some (.ref 0), some (.int x1), some (.int x2), none, some (.long x4), none, some (.long x6), none, some (.int x8), some (.int (x9 + 1))], [], σ)) rfl ?_
  exact hrec113 _ _ _ hf
def fX0_found_L113 (x1 : Int32) (x2 : Int32) (x4 : Int64) (x6 : Int64) (σ : Sg)  (rec113 : (Int32 × Int32) → Option (Int32 × Sg)) (s : Int32 × Int32) : Option (Int32 × Sg) :=
  match s with
  | (x8, x9) => (fJ2_size 2 σ).bind fun q17 => if q17 ≤ x9 then some ((-2), σ) else if x4 = 0 then some ((-2), σ) else (fX0_isIn x9 x1 x2 σ).bind fun q21 => if q21 ≠ 0 then if ((x8 + 1).toInt64 * x4) ≠ x6 then fX0_found_J167 x1 x2 x4 x6 (x8 + 1) x9 rec113 σ else some (x9, σ) else fX0_found_J167 x1 x2 x4 x6 x8 x9 rec113 σ
set_option maxHeartbeats 1500000 in
theorem fX0_found_L113_ok (x1 : Int32) (x2 : Int32) (x4 : Int64) (x6 : Int64) (σ : Sg)   : ∀ (n : Nat) (x8 : Int32) (x9 : Int32) (r : (Int32 × Sg)), lp (fX0_found_L113 x1 x2 x4 x6 σ ) n (x8, x9) = some r → Go true 5 iX0_found (113, [some (.ref 0), some (.int x1), some (.int x2), none, some (.long x4), none, some (.long x6), none, some (.int x8), some (.int x9)], [], σ) (.inl (some (.int (r).1)), (r).2) := by
  intro n
  induction n with
  | zero => intro x8 x9 r hf; cases hf
  | succ n ih =>
    intro x8 x9 r hf
    have hf : fX0_found_L113 x1 x2 x4 x6 σ  (lp (fX0_found_L113 x1 x2 x4 x6 σ ) n) (x8, x9) = some r := hf
    have hrec113 := ih
    generalize lp (fX0_found_L113 x1 x2 x4 x6 σ ) n = rec113 at hf hrec113
    unfold fX0_found_L113 at hf
    dsimp only at hf
    refine go_n 4 (f := (122, [some (.ref 0), some (.int x1), some (.int x2), none, some (.long x4), none, some (.long x6), none, some (.int x8), some (.int x9)], [.ref 2, .int x9], σ)) rfl ?_
    obtain ⟨q17, h18, hf⟩ := bnd hf
    refine go_c (mid := 2821) (args := [.ref 2]) (pc := 125) (L := [some (.ref 0), some (.int x1), some (.int x2), none, some (.long x4), none, some (.long x6), none, some (.int x8), some (.int x9)]) (st := [.int x9]) (σ := σ) rfl ((fJ2_size_ok _ _ q17 h18).deep (Nat.le_of_ble_eq_true rfl)) ?_
    by_cases h19 : q17 ≤ x9
    · rw [if_pos h19] at hf
      refine go_it (t := 173) (f := 128) (L1 := [some (.ref 0), some (.int x1), some (.int x2), none, some (.long x4), none, some (.long x6), none, some (.int x8), some (.int x9)]) (st1 := []) (σ1 := σ) rfl h19 ?_
      refine go_e (L1 := [none, none, none, none, none, none, none, none, none, none]) rfl rfl ?_
      refine go_n 1 (f := (175, [none, none, none, none, none, none, none, none, none, none], [.int (-2)], σ)) rfl ?_
      cases hf
      exact go_r rfl
    · rw [if_neg h19] at hf
      refine go_if (t := 173) (f := 128) (L1 := [some (.ref 0), some (.int x1), some (.int x2), none, some (.long x4), none, some (.long x6), none, some (.int x8), some (.int x9)]) (st1 := []) (σ1 := σ) rfl h19 ?_
      refine go_n 3 (f := (132, [some (.ref 0), some (.int x1), some (.int x2), none, some (.long x4), none, some (.long x6), none, some (.int x8), some (.int x9)], [.int (lg_cmp x4 0)], σ)) rfl ?_
      by_cases h20 : x4 = 0
      · rw [if_pos h20] at hf
        refine go_it (t := 173) (f := 135) (L1 := [some (.ref 0), some (.int x1), some (.int x2), none, some (.long x4), none, some (.long x6), none, some (.int x8), some (.int x9)]) (st1 := []) (σ1 := σ) rfl ((lgc_eq x4 0).mpr h20) ?_
        refine go_e (L1 := [none, none, none, none, none, none, none, none, none, none]) rfl rfl ?_
        refine go_n 1 (f := (175, [none, none, none, none, none, none, none, none, none, none], [.int (-2)], σ)) rfl ?_
        cases hf
        exact go_r rfl
      · rw [if_neg h20] at hf
        refine go_if (t := 173) (f := 135) (L1 := [some (.ref 0), some (.int x1), some (.int x2), none, some (.long x4), none, some (.long x6), none, some (.int x8), some (.int x9)]) (st1 := []) (σ1 := σ) rfl (fun q => h20 ((lgc_eq x4 0).mp q)) ?_
        refine go_n 4 (f := (140, [some (.ref 0), some (.int x1), some (.int x2), none, some (.long x4), none, some (.long x6), none, some (.int x8), some (.int x9)], [.int x2, .int x1, .int x9, .ref 0], σ)) rfl ?_
        obtain ⟨q21, h22, hf⟩ := bnd hf
        refine go_c (mid := 5213) (args := [.ref 0, .int x9, .int x1, .int x2]) (pc := 143) (L := [some (.ref 0), some (.int x1), some (.int x2), none, some (.long x4), none, some (.long x6), none, some (.int x8), some (.int x9)]) (st := []) (σ := σ) rfl ((fX0_isIn_ok _ _ _ _ q21 h22).deep (Nat.le_of_ble_eq_true rfl)) ?_
        by_cases h23 : q21 ≠ 0
        · rw [if_pos h23] at hf
          refine go_it (t := 149) (f := 146) (L1 := [some (.ref 0), some (.int x1), some (.int x2), none, some (.long x4), none, some (.long x6), none, some (.int x8), some (.int x9)]) (st1 := []) (σ1 := σ) rfl h23 ?_
          refine go_n 7 (f := (161, [some (.ref 0), some (.int x1), some (.int x2), none, some (.long x4), none, some (.long x6), none, some (.int (x8 + 1)), some (.int x9)], [.int (lg_cmp ((x8 + 1).toInt64 * x4) x6)], σ)) rfl ?_
          by_cases h24 : ((x8 + 1).toInt64 * x4) ≠ x6
          · rw [if_pos h24] at hf
            refine go_it (t := 167) (f := 164) (L1 := [some (.ref 0), some (.int x1), some (.int x2), none, some (.long x4), none, some (.long x6), none, some (.int (x8 + 1)), some (.int x9)]) (st1 := []) (σ1 := σ) rfl ((lgc_ne ((x8 + 1).toInt64 * x4) x6).mpr h24) ?_
            exact fX0_found_J167_ok _ _ _ _ _ _ _ _ hrec113 _ hf
          · rw [if_neg h24] at hf
            refine go_if (t := 167) (f := 164) (L1 := [some (.ref 0), some (.int x1), some (.int x2), none, some (.long x4), none, some (.long x6), none, some (.int (x8 + 1)), some (.int x9)]) (st1 := []) (σ1 := σ) rfl (fun q => h24 ((lgc_ne ((x8 + 1).toInt64 * x4) x6).mp q)) ?_
            refine go_n 1 (f := (166, [some (.ref 0), some (.int x1), some (.int x2), none, some (.long x4), none, some (.long x6), none, some (.int (x8 + 1)), some (.int x9)], [.int x9], σ)) rfl ?_
            cases hf
            exact go_r rfl
        · rw [if_neg h23] at hf
          refine go_if (t := 149) (f := 146) (L1 := [some (.ref 0), some (.int x1), some (.int x2), none, some (.long x4), none, some (.long x6), none, some (.int x8), some (.int x9)]) (st1 := []) (σ1 := σ) rfl h23 ?_
          refine go_n 1 (f := (167, [some (.ref 0), some (.int x1), some (.int x2), none, some (.long x4), none, some (.long x6), none, some (.int x8), some (.int x9)], [], σ)) rfl ?_
          exact fX0_found_J167_ok _ _ _ _ _ _ _ _ hrec113 _ hf
def fX0_found_J107 (x1 : Int32) (x2 : Int32) (x4 : Int64) (x6 : Int64)  (σ : Sg) : Option (Int32 × Sg) :=
  lp (fX0_found_L113 x1 x2 x4 x6 σ ) N0 (0, 0)
set_option maxHeartbeats 1500000 in
theorem fX0_found_J107_ok (x1 : Int32) (x2 : Int32) (x4 : Int64) (x6 : Int64)  (σ : Sg)  (r : (Int32 × Sg)) (hf : fX0_found_J107 x1 x2 x4 x6  σ = some r) : Go true 5 iX0_found (107, [some (.ref 0), some (.int x1), some (.int x2), none, some (.long x4), none, some (.long x6), none, none, none], [], σ) (.inl (some (.int (r).1)), (r).2) := by
  unfold fX0_found_J107 at hf
  refine go_n 4 (f := (113, [some (.ref 0), some (.int x1), some (.int x2), none, some (.long x4), none, some (.long x6), none, some (.int 0), some (.int 0)], [], σ)) rfl ?_
  exact fX0_found_L113_ok _ _ _ _ _   N0 _ _ _ hf
def fX0_found (x1 : Int32) (x2 : Int32) (σ : Sg) : Option (Int32 × Sg) :=
  (fX0_isMonth x1 x2).bind fun q1 => if q1 = 0 then some ((-3), σ) else (fX0_monthAt x1 x2).bind fun q4 => if inb q4 3624 then if (gi σ 21 q4.toNatClampNeg) ≠ (-1) then (fX0_sums x1 x2 σ).bind fun q8 => (fX0_monthAt x1 x2).bind fun q10 => if inb q10 3624 then if (gi q8 0 50) = (gi q8 21 q10.toNatClampNeg) then if inb q10 3624 then if inb q10 3624 then if ((gl q8 0 48) - (gl q8 22 q10.toNatClampNeg)) ≠ 0 then fX0_found_J107 x1 x2 ((gl q8 0 48) - (gl q8 22 q10.toNatClampNeg)) ((gl q8 0 49) - (gl q8 23 q10.toNatClampNeg))  q8 else if ((gl q8 0 49) - (gl q8 23 q10.toNatClampNeg)) ≠ 0 then fX0_found_J107 x1 x2 ((gl q8 0 48) - (gl q8 22 q10.toNatClampNeg)) ((gl q8 0 49) - (gl q8 23 q10.toNatClampNeg))  q8 else some ((-1), q8) else none else none else some ((-2), q8) else none else some ((-3), σ) else none
set_option maxHeartbeats 1500000 in
theorem fX0_found_ok (x1 : Int32) (x2 : Int32) (σ : Sg) (r : (Int32 × Sg)) (hf : fX0_found x1 x2 σ = some r) : Cl true 5 5216 [.ref 0, .int x1, .int x2] σ (.inl (some (.int (r).1)), (r).2) := by
  refine ⟨iX0_found, rfl, Nat.le_of_ble_eq_true rfl, Nat.le_of_ble_eq_true rfl, ?_⟩
  show Go true 5 iX0_found (0, [some (.ref 0), some (.int x1), some (.int x2), none, none, none, none, none, none, none], [], σ) (.inl (some (.int (r).1)), (r).2)
  unfold fX0_found at hf
  refine go_n 2 (f := (2, [some (.ref 0), some (.int x1), some (.int x2), none, none, none, none, none, none, none], [.int x2, .int x1], σ)) rfl ?_
  obtain ⟨q1, h2, hf⟩ := bnd hf
  refine go_c (mid := 5211) (args := [.int x1, .int x2]) (pc := 5) (L := [some (.ref 0), some (.int x1), some (.int x2), none, none, none, none, none, none, none]) (st := []) (σ := σ) rfl ((fX0_isMonth_ok _ _ _ q1 h2).deep (Nat.le_of_ble_eq_true rfl)) ?_
  by_cases h3 : q1 = 0
  · rw [if_pos h3] at hf
    refine go_it (t := 25) (f := 8) (L1 := [some (.ref 0), some (.int x1), some (.int x2), none, none, none, none, none, none, none]) (st1 := []) (σ1 := σ) rfl h3 ?_
    refine go_e (L1 := [none, none, none, none, none, none, none, none, none, none]) rfl rfl ?_
    refine go_n 1 (f := (27, [none, none, none, none, none, none, none, none, none, none], [.int (-3)], σ)) rfl ?_
    cases hf
    exact go_r rfl
  · rw [if_neg h3] at hf
    refine go_if (t := 25) (f := 8) (L1 := [some (.ref 0), some (.int x1), some (.int x2), none, none, none, none, none, none, none]) (st1 := []) (σ1 := σ) rfl h3 ?_
    refine go_n 5 (f := (17, [some (.ref 0), some (.int x1), some (.int x2), none, none, none, none, none, none, none], [.int x2, .int x1, .ref 21], σ)) rfl ?_
    obtain ⟨q4, h5, hf⟩ := bnd hf
    refine go_c (mid := 5214) (args := [.int x1, .int x2]) (pc := 20) (L := [some (.ref 0), some (.int x1), some (.int x2), none, none, none, none, none, none, none]) (st := [.ref 21]) (σ := σ) rfl ((fX0_monthAt_ok _ _ _ q4 h5).deep (Nat.le_of_ble_eq_true rfl)) ?_
    obtain ⟨h6, hf⟩ := grd hf
    refine go_iald rfl rfl rfl h6 ?_
    refine go_n 1 (f := (22, [some (.ref 0), some (.int x1), some (.int x2), none, none, none, none, none, none, none], [.int (-1), .int (gi σ 21 q4.toNatClampNeg)], σ)) rfl ?_
    by_cases h7 : (gi σ 21 q4.toNatClampNeg) ≠ (-1)
    · rw [if_pos h7] at hf
      refine go_it (t := 28) (f := 25) (L1 := [some (.ref 0), some (.int x1), some (.int x2), none, none, none, none, none, none, none]) (st1 := []) (σ1 := σ) rfl h7 ?_
      refine go_n 3 (f := (31, [some (.ref 0), some (.int x1), some (.int x2), none, none, none, none, none, none, none], [.int x2, .int x1, .ref 0], σ)) rfl ?_
      obtain ⟨q8, h9, hf⟩ := bnd hf
      refine go_c (mid := 5212) (args := [.ref 0, .int x1, .int x2]) (pc := 34) (L := [some (.ref 0), some (.int x1), some (.int x2), none, none, none, none, none, none, none]) (st := []) (σ := σ) rfl ((fX0_sums_ok _ _ _ q8 h9).deep (Nat.le_of_ble_eq_true rfl)) ?_
      refine go_n 2 (f := (36, [some (.ref 0), some (.int x1), some (.int x2), none, none, none, none, none, none, none], [.int x2, .int x1], q8)) rfl ?_
      obtain ⟨q10, h11, hf⟩ := bnd hf
      refine go_c (mid := 5214) (args := [.int x1, .int x2]) (pc := 39) (L := [some (.ref 0), some (.int x1), some (.int x2), none, none, none, none, none, none, none]) (st := []) (σ := q8) rfl ((fX0_monthAt_ok _ _ _ q10 h11).deep (Nat.le_of_ble_eq_true rfl)) ?_
      refine go_n 7 (f := (52, [some (.ref 0), some (.int x1), some (.int x2), some (.int q10), none, none, none, none, none, none], [.int q10, .ref 21, .int (gi q8 0 50)], q8)) rfl ?_
      obtain ⟨h12, hf⟩ := grd hf
      refine go_iald rfl rfl rfl h12 ?_
      by_cases h13 : (gi q8 0 50) = (gi q8 21 q10.toNatClampNeg)
      · rw [if_pos h13] at hf
        refine go_it (t := 59) (f := 56) (L1 := [some (.ref 0), some (.int x1), some (.int x2), some (.int q10), none, none, none, none, none, none]) (st1 := []) (σ1 := q8) rfl h13 ?_
        refine go_n 6 (f := (71, [some (.ref 0), some (.int x1), some (.int x2), some (.int q10), none, none, none, none, none, none], [.int q10, .ref 22, .long (gl q8 0 48)], q8)) rfl ?_
        obtain ⟨h14, hf⟩ := grd hf
        refine go_lald rfl rfl rfl h14 ?_
        refine go_n 8 (f := (87, [some (.ref 0), some (.int x1), some (.int x2), some (.int q10), some (.long ((gl q8 0 48) - (gl q8 22 q10.toNatClampNeg))), none, none, none, none, none], [.int q10, .ref 23, .long (gl q8 0 49)], q8)) rfl ?_
        obtain ⟨h15, hf⟩ := grd hf
        refine go_lald rfl rfl rfl h15 ?_
        refine go_n 5 (f := (95, [some (.ref 0), some (.int x1), some (.int x2), some (.int q10), some (.long ((gl q8 0 48) - (gl q8 22 q10.toNatClampNeg))), none, some (.long ((gl q8 0 49) - (gl q8 23 q10.toNatClampNeg))), none, none, none], [.int (lg_cmp ((gl q8 0 48) - (gl q8 22 q10.toNatClampNeg)) 0)], q8)) rfl ?_
        by_cases h16 : ((gl q8 0 48) - (gl q8 22 q10.toNatClampNeg)) ≠ 0
        · rw [if_pos h16] at hf
          refine go_it (t := 107) (f := 98) (L1 := [some (.ref 0), some (.int x1), some (.int x2), some (.int q10), some (.long ((gl q8 0 48) - (gl q8 22 q10.toNatClampNeg))), none, some (.long ((gl q8 0 49) - (gl q8 23 q10.toNatClampNeg))), none, none, none]) (st1 := []) (σ1 := q8) rfl ((lgc_ne ((gl q8 0 48) - (gl q8 22 q10.toNatClampNeg)) 0).mpr h16) ?_
          refine go_e (L1 := [some (.ref 0), some (.int x1), some (.int x2), none, some (.long ((gl q8 0 48) - (gl q8 22 q10.toNatClampNeg))), none, some (.long ((gl q8 0 49) - (gl q8 23 q10.toNatClampNeg))), none, none, none]) rfl rfl ?_
          exact fX0_found_J107_ok _ _ _ _  _  _ hf
        · rw [if_neg h16] at hf
          refine go_if (t := 107) (f := 98) (L1 := [some (.ref 0), some (.int x1), some (.int x2), some (.int q10), some (.long ((gl q8 0 48) - (gl q8 22 q10.toNatClampNeg))), none, some (.long ((gl q8 0 49) - (gl q8 23 q10.toNatClampNeg))), none, none, none]) (st1 := []) (σ1 := q8) rfl (fun q => h16 ((lgc_ne ((gl q8 0 48) - (gl q8 22 q10.toNatClampNeg)) 0).mp q)) ?_
          refine go_n 3 (f := (102, [some (.ref 0), some (.int x1), some (.int x2), some (.int q10), some (.long ((gl q8 0 48) - (gl q8 22 q10.toNatClampNeg))), none, some (.long ((gl q8 0 49) - (gl q8 23 q10.toNatClampNeg))), none, none, none], [.int (lg_cmp ((gl q8 0 49) - (gl q8 23 q10.toNatClampNeg)) 0)], q8)) rfl ?_
          by_cases h25 : ((gl q8 0 49) - (gl q8 23 q10.toNatClampNeg)) ≠ 0
          · rw [if_pos h25] at hf
            refine go_it (t := 107) (f := 105) (L1 := [some (.ref 0), some (.int x1), some (.int x2), some (.int q10), some (.long ((gl q8 0 48) - (gl q8 22 q10.toNatClampNeg))), none, some (.long ((gl q8 0 49) - (gl q8 23 q10.toNatClampNeg))), none, none, none]) (st1 := []) (σ1 := q8) rfl ((lgc_ne ((gl q8 0 49) - (gl q8 23 q10.toNatClampNeg)) 0).mpr h25) ?_
            refine go_e (L1 := [some (.ref 0), some (.int x1), some (.int x2), none, some (.long ((gl q8 0 48) - (gl q8 22 q10.toNatClampNeg))), none, some (.long ((gl q8 0 49) - (gl q8 23 q10.toNatClampNeg))), none, none, none]) rfl rfl ?_
            exact fX0_found_J107_ok _ _ _ _  _  _ hf
          · rw [if_neg h25] at hf
            refine go_if (t := 107) (f := 105) (L1 := [some (.ref 0), some (.int x1), some (.int x2), some (.int q10), some (.long ((gl q8 0 48) - (gl q8 22 q10.toNatClampNeg))), none, some (.long ((gl q8 0 49) - (gl q8 23 q10.toNatClampNeg))), none, none, none]) (st1 := []) (σ1 := q8) rfl (fun q => h25 ((lgc_ne ((gl q8 0 49) - (gl q8 23 q10.toNatClampNeg)) 0).mp q)) ?_
            refine go_n 1 (f := (106, [some (.ref 0), some (.int x1), some (.int x2), some (.int q10), some (.long ((gl q8 0 48) - (gl q8 22 q10.toNatClampNeg))), none, some (.long ((gl q8 0 49) - (gl q8 23 q10.toNatClampNeg))), none, none, none], [.int (-1)], q8)) rfl ?_
            cases hf
            exact go_r rfl
      · rw [if_neg h13] at hf
        refine go_if (t := 59) (f := 56) (L1 := [some (.ref 0), some (.int x1), some (.int x2), some (.int q10), none, none, none, none, none, none]) (st1 := []) (σ1 := q8) rfl h13 ?_
        refine go_n 1 (f := (58, [some (.ref 0), some (.int x1), some (.int x2), some (.int q10), none, none, none, none, none, none], [.int (-2)], q8)) rfl ?_
        cases hf
        exact go_r rfl
    · rw [if_neg h7] at hf
      refine go_if (t := 28) (f := 25) (L1 := [some (.ref 0), some (.int x1), some (.int x2), none, none, none, none, none, none, none]) (st1 := []) (σ1 := σ) rfl h7 ?_
      refine go_e (L1 := [none, none, none, none, none, none, none, none, none, none]) rfl rfl ?_
      refine go_n 1 (f := (27, [none, none, none, none, none, none, none, none, none, none], [.int (-3)], σ)) rfl ?_
      cases hf
      exact go_r rfl
/-! OldWeather$Force.looks(I)V -/
def fX2_looks_J293 (x2 : Int32) (x3 : Int32) (rec152 : (Int32 × Sg) → Option Sg) (rec171 : (Int32 × Sg) → Option Sg) (σ : Sg) : Option Sg :=
  rec171 ((x3 + 1), σ)
set_option maxHeartbeats 1500000 in
theorem fX2_looks_J293_ok (x2 : Int32) (x3 : Int32) (rec152 : (Int32 × Sg) → Option Sg) (rec171 : (Int32 × Sg) → Option Sg) (σ : Sg) (hrec152 : ∀ (y2 : Int32) (τ : Sg) (r : Sg), rec152 (y2, τ) = some r → Go true 4 iX2_looks (152, [some (.ref 28), none, some (.int y2), none, none], [], τ) (.inl none, r)) (hrec171 : ∀ (y3 : Int32) (τ : Sg) (r : Sg), rec171 (y3, τ) = some r → Go true 4 iX2_looks (171, [some (.ref 28), none, some (.int x2), some (.int y3), none], [], τ) (.inl none, r)) (r : Sg) (hf : fX2_looks_J293 x2 x3 rec152 rec171 σ = some r) : Go true 4 iX2_looks (293, [some (.ref 28), none, some (.int x2), some (.int x3), none], [], σ) (.inl none, r) := by
  unfold fX2_looks_J293 at hf
  refine go_n 2 (f := (171, [some (.ref 28), none, some (.int x2), some (.int (x3 + 1)), none], [], σ)) rfl ?_
  exact hrec171 _ _ _ hf
def fX2_looks_J260 (x2 : Int32) (x3 : Int32) (x4 : Nat) (rec152 : (Int32 × Sg) → Option Sg) (rec171 : (Int32 × Sg) → Option Sg) (σ : Sg) : Option Sg :=
  if [26].elem (kk σ x4) = true then if (gi σ x4 0) ≠ 8 then fX2_looks_J293 x2 x3 rec152 rec171 σ else if inb ((12 * x2) + x3) 240 then if (gi σ 29 ((12 * x2) + x3).toNatClampNeg) = 0 then fX2_looks_J293 x2 x3 rec152 rec171 σ else if [26].elem (kk σ x4) = true then fX2_looks_J293 x2 x3 rec152 rec171 (wi σ 28 5 (gi σ x4 2)) else none else none else none
set_option maxHeartbeats 1500000 in
theorem fX2_looks_J260_ok (x2 : Int32) (x3 : Int32) (x4 : Nat) (rec152 : (Int32 × Sg) → Option Sg) (rec171 : (Int32 × Sg) → Option Sg) (σ : Sg) (hrec152 : ∀ (y2 : Int32) (τ : Sg) (r : Sg), rec152 (y2, τ) = some r → Go true 4 iX2_looks (152, [some (.ref 28), none, some (.int y2), none, none], [], τ) (.inl none, r)) (hrec171 : ∀ (y3 : Int32) (τ : Sg) (r : Sg), rec171 (y3, τ) = some r → Go true 4 iX2_looks (171, [some (.ref 28), none, some (.int x2), some (.int y3), none], [], τ) (.inl none, r)) (r : Sg) (hf : fX2_looks_J260 x2 x3 x4 rec152 rec171 σ = some r) : Go true 4 iX2_looks (260, [some (.ref 28), none, some (.int x2), some (.int x3), some (.ref x4)], [], σ) (.inl none, r) := by
  unfold fX2_looks_J260 at hf
  refine go_n 1 (f := (262, [some (.ref 28), none, some (.int x2), some (.int x3), some (.ref x4)], [.ref x4], σ)) rfl ?_
  obtain ⟨h31, hf⟩ := grd hf
  refine go_get rfl rfl rfl h31 ?_
  refine go_n 1 (f := (267, [some (.ref 28), none, some (.int x2), some (.int x3), some (.ref x4)], [.int 8, .int (gi σ x4 0)], σ)) rfl ?_
  by_cases h32 : (gi σ x4 0) ≠ 8
  · rw [if_pos h32] at hf
    refine go_it (t := 293) (f := 270) (L1 := [some (.ref 28), none, some (.int x2), some (.int x3), some (.ref x4)]) (st1 := []) (σ1 := σ) rfl h32 ?_
    refine go_e (L1 := [some (.ref 28), none, some (.int x2), some (.int x3), none]) rfl rfl ?_
    exact fX2_looks_J293_ok _ _ _ _ _ hrec152 hrec171 _ hf
  · rw [if_neg h32] at hf
    refine go_if (t := 293) (f := 270) (L1 := [some (.ref 28), none, some (.int x2), some (.int x3), some (.ref x4)]) (st1 := []) (σ1 := σ) rfl h32 ?_
    refine go_n 7 (f := (280, [some (.ref 28), none, some (.int x2), some (.int x3), some (.ref x4)], [.int ((12 * x2) + x3), .ref 29], σ)) rfl ?_
    obtain ⟨h33, hf⟩ := grd hf
    refine go_bald rfl rfl (Or.inr rfl) h33 ?_
    by_cases h34 : (gi σ 29 ((12 * x2) + x3).toNatClampNeg) = 0
    · rw [if_pos h34] at hf
      refine go_it (t := 293) (f := 284) (L1 := [some (.ref 28), none, some (.int x2), some (.int x3), some (.ref x4)]) (st1 := []) (σ1 := σ) rfl h34 ?_
      refine go_e (L1 := [some (.ref 28), none, some (.int x2), some (.int x3), none]) rfl rfl ?_
      exact fX2_looks_J293_ok _ _ _ _ _ hrec152 hrec171 _ hf
    · rw [if_neg h34] at hf
      refine go_if (t := 293) (f := 284) (L1 := [some (.ref 28), none, some (.int x2), some (.int x3), some (.ref x4)]) (st1 := []) (σ1 := σ) rfl h34 ?_
      refine go_n 2 (f := (287, [some (.ref 28), none, some (.int x2), some (.int x3), some (.ref x4)], [.ref x4, .ref 28], σ)) rfl ?_
      obtain ⟨h35, hf⟩ := grd hf
      refine go_get rfl rfl rfl h35 ?_
      refine go_n 1 (f := (293, [some (.ref 28), none, some (.int x2), some (.int x3), some (.ref x4)], [], (wi σ 28 5 (gi σ x4 2)))) rfl ?_
      refine go_e (L1 := [some (.ref 28), none, some (.int x2), some (.int x3), none]) rfl rfl ?_
      exact fX2_looks_J293_ok _ _ _ _ _ hrec152 hrec171 _ hf
def fX2_looks_L171 (x2 : Int32) (rec152 : (Int32 × Sg) → Option Sg) (rec171 : (Int32 × Sg) → Option Sg) (s : Int32 × Sg) : Option Sg :=
  match s with
  | (x3, σ) => (fJ2_get 4 x2 σ).bind fun q9 => if [34].elem (kk σ q9) = true then if [34].elem (kk σ q9) = true then (match (rf σ q9 2) with
  | some a12 => if (kk σ a12) = 16 then (fJ2_size a12 σ).bind fun q16 => if q16 ≤ x3 then rec152 ((x2 + 1), σ) else (fJ2_get 4 x2 σ).bind fun q19 => if [34].elem (kk σ q19) = true then if [34].elem (kk σ q19) = true then (match (rf σ q19 2) with
  | some a22 => if (kk σ a22) = 16 then (fJ2_get a22 x3 σ).bind fun q26 => if [26].elem (kk σ q26) = true then if [26].elem (kk σ q26) = true then if (gi σ q26 0) ≠ 7 then fX2_looks_J260 x2 x3 q26 rec152 rec171 σ else if inb ((12 * x2) + x3) 240 then if (gi σ 29 ((12 * x2) + x3).toNatClampNeg) = 0 then fX2_looks_J260 x2 x3 q26 rec152 rec171 σ else if [26].elem (kk σ q26) = true then fX2_looks_J260 x2 x3 q26 rec152 rec171 (wi σ 28 4 (gi σ q26 2)) else none else none else none else none else none
  | none => none) else none else none else none
  | none => none) else none else none
set_option maxHeartbeats 1500000 in
theorem fX2_looks_L171_ok (x2 : Int32) (rec152 : (Int32 × Sg) → Option Sg) (hrec152 : ∀ (y2 : Int32) (τ : Sg) (r : Sg), rec152 (y2, τ) = some r → Go true 4 iX2_looks (152, [some (.ref 28), none, some (.int y2), none, none], [], τ) (.inl none, r)) : ∀ (n : Nat) (x3 : Int32) (σ : Sg) (r : Sg), lp (fX2_looks_L171 x2 rec152) n (x3, σ) = some r → Go true 4 iX2_looks (171, [some (.ref 28), none, some (.int x2), some (.int x3), none], [], σ) (.inl none, r) := by
  intro n
  induction n with
  | zero => intro x3 σ r hf; cases hf
  | succ n ih =>
    intro x3 σ r hf
    have hf : fX2_looks_L171 x2 rec152 (lp (fX2_looks_L171 x2 rec152) n) (x3, σ) = some r := hf
    have hrec171 := ih
    generalize lp (fX2_looks_L171 x2 rec152) n = rec171 at hf hrec171
    unfold fX2_looks_L171 at hf
    dsimp only at hf
    refine go_n 6 (f := (183, [some (.ref 28), none, some (.int x2), some (.int x3), none], [.int x2, .ref 4, .int x3], σ)) rfl ?_
    obtain ⟨q9, h10, hf⟩ := bnd hf
    refine go_c (mid := 2825) (args := [.ref 4, .int x2]) (pc := 186) (L := [some (.ref 28), none, some (.int x2), some (.int x3), none]) (st := [.int x3]) (σ := σ) rfl ((fJ2_get_ok _ _ _ q9 h10).deep (Nat.le_of_ble_eq_true rfl)) ?_
    obtain ⟨h11, hf⟩ := grd hf
    refine go_cast rfl rfl rfl h11 ?_
    obtain ⟨h13, hf⟩ := grd hf
    refine go_get rfl rfl rfl h13 ?_
    show Go true 4 iX2_looks (192, [some (.ref 28), none, some (.int x2), some (.int x3), none], va_rf (rf σ q9 2) :: [.int x3], σ) _
    generalize hR14 : (rf σ q9 2) = h40 at hf ⊢
    cases h40 with
    | none =>
      cases hf
    | some a12 =>
      obtain ⟨h15, hf⟩ := grd hf
      obtain ⟨q16, h17, hf⟩ := bnd hf
      refine go_c (mid := 2821) (args := [.ref a12]) (pc := 195) (L := [some (.ref 28), none, some (.int x2), some (.int x3), none]) (st := [.int x3]) (σ := σ) (stp_callV1 (n := 1) rfl rfl rfl ⟨Nat.le_of_ble_eq_true rfl, Nat.le_of_ble_eq_true rfl⟩ rfl h15 rfl) ((fJ2_size_ok _ _ q16 h17).deep (Nat.le_of_ble_eq_true rfl)) ?_
      by_cases h18 : q16 ≤ x3
      · rw [if_pos h18] at hf
        refine go_it (t := 299) (f := 198) (L1 := [some (.ref 28), none, some (.int x2), some (.int x3), none]) (st1 := []) (σ1 := σ) rfl h18 ?_
        refine go_n 2 (f := (152, [some (.ref 28), none, some (.int (x2 + 1)), some (.int x3), none], [], σ)) rfl ?_
        refine go_e (L1 := [some (.ref 28), none, some (.int (x2 + 1)), none, none]) rfl rfl ?_
        exact hrec152 _ _ _ hf
      · rw [if_neg h18] at hf
        refine go_if (t := 299) (f := 198) (L1 := [some (.ref 28), none, some (.int x2), some (.int x3), none]) (st1 := []) (σ1 := σ) rfl h18 ?_
        refine go_n 5 (f := (209, [some (.ref 28), none, some (.int x2), some (.int x3), none], [.int x2, .ref 4], σ)) rfl ?_
        obtain ⟨q19, h20, hf⟩ := bnd hf
        refine go_c (mid := 2825) (args := [.ref 4, .int x2]) (pc := 212) (L := [some (.ref 28), none, some (.int x2), some (.int x3), none]) (st := []) (σ := σ) rfl ((fJ2_get_ok _ _ _ q19 h20).deep (Nat.le_of_ble_eq_true rfl)) ?_
        obtain ⟨h21, hf⟩ := grd hf
        refine go_cast rfl rfl rfl h21 ?_
        obtain ⟨h23, hf⟩ := grd hf
        refine go_get rfl rfl rfl h23 ?_
        show Go true 4 iX2_looks (218, [some (.ref 28), none, some (.int x2), some (.int x3), none], va_rf (rf σ q19 2) :: [], σ) _
        generalize hR24 : (rf σ q19 2) = h39 at hf ⊢
        cases h39 with
        | none =>
          cases hf
        | some a22 =>
          refine go_n 1 (f := (219, [some (.ref 28), none, some (.int x2), some (.int x3), none], [.int x3, .ref a22], σ)) rfl ?_
          obtain ⟨h25, hf⟩ := grd hf
          obtain ⟨q26, h27, hf⟩ := bnd hf
          refine go_c (mid := 2825) (args := [.ref a22, .int x3]) (pc := 222) (L := [some (.ref 28), none, some (.int x2), some (.int x3), none]) (st := []) (σ := σ) (stp_callV1 (n := 2) rfl rfl rfl ⟨Nat.le_of_ble_eq_true rfl, Nat.le_of_ble_eq_true rfl⟩ rfl h25 rfl) ((fJ2_get_ok _ _ _ q26 h27).deep (Nat.le_of_ble_eq_true rfl)) ?_
          obtain ⟨h28, hf⟩ := grd hf
          refine go_cast rfl rfl rfl h28 ?_
          refine go_n 2 (f := (229, [some (.ref 28), none, some (.int x2), some (.int x3), some (.ref q26)], [.ref q26], σ)) rfl ?_
          obtain ⟨h29, hf⟩ := grd hf
          refine go_get rfl rfl rfl h29 ?_
          refine go_n 1 (f := (234, [some (.ref 28), none, some (.int x2), some (.int x3), some (.ref q26)], [.int 7, .int (gi σ q26 0)], σ)) rfl ?_
          by_cases h30 : (gi σ q26 0) ≠ 7
          · rw [if_pos h30] at hf
            refine go_it (t := 260) (f := 237) (L1 := [some (.ref 28), none, some (.int x2), some (.int x3), some (.ref q26)]) (st1 := []) (σ1 := σ) rfl h30 ?_
            exact fX2_looks_J260_ok _ _ _ _ _ _ hrec152 hrec171 _ hf
          · rw [if_neg h30] at hf
            refine go_if (t := 260) (f := 237) (L1 := [some (.ref 28), none, some (.int x2), some (.int x3), some (.ref q26)]) (st1 := []) (σ1 := σ) rfl h30 ?_
            refine go_n 7 (f := (247, [some (.ref 28), none, some (.int x2), some (.int x3), some (.ref q26)], [.int ((12 * x2) + x3), .ref 29], σ)) rfl ?_
            obtain ⟨h36, hf⟩ := grd hf
            refine go_bald rfl rfl (Or.inr rfl) h36 ?_
            by_cases h37 : (gi σ 29 ((12 * x2) + x3).toNatClampNeg) = 0
            · rw [if_pos h37] at hf
              refine go_it (t := 260) (f := 251) (L1 := [some (.ref 28), none, some (.int x2), some (.int x3), some (.ref q26)]) (st1 := []) (σ1 := σ) rfl h37 ?_
              exact fX2_looks_J260_ok _ _ _ _ _ _ hrec152 hrec171 _ hf
            · rw [if_neg h37] at hf
              refine go_if (t := 260) (f := 251) (L1 := [some (.ref 28), none, some (.int x2), some (.int x3), some (.ref q26)]) (st1 := []) (σ1 := σ) rfl h37 ?_
              refine go_n 2 (f := (254, [some (.ref 28), none, some (.int x2), some (.int x3), some (.ref q26)], [.ref q26, .ref 28], σ)) rfl ?_
              obtain ⟨h38, hf⟩ := grd hf
              refine go_get rfl rfl rfl h38 ?_
              refine go_n 1 (f := (260, [some (.ref 28), none, some (.int x2), some (.int x3), some (.ref q26)], [], (wi σ 28 4 (gi σ q26 2)))) rfl ?_
              exact fX2_looks_J260_ok _ _ _ _ _ _ hrec152 hrec171 _ hf
def fX2_looks_L152   (rec152 : (Int32 × Sg) → Option Sg) (s : Int32 × Sg) : Option Sg :=
  match s with
  | (x2, σ) => (fJ2_size 4 σ).bind fun q6 => if q6 ≤ x2 then some σ else lp (fX2_looks_L171 x2 rec152) N0 (0, σ)
set_option maxHeartbeats 1500000 in
theorem fX2_looks_L152_ok    : ∀ (n : Nat) (x2 : Int32) (σ : Sg) (r : Sg), lp (fX2_looks_L152  ) n (x2, σ) = some r → Go true 4 iX2_looks (152, [some (.ref 28), none, some (.int x2), none, none], [], σ) (.inl none, r) := by
  intro n
  induction n with
  | zero => intro x2 σ r hf; cases hf
  | succ n ih =>
    intro x2 σ r hf
    have hf : fX2_looks_L152   (lp (fX2_looks_L152  ) n) (x2, σ) = some r := hf
    have hrec152 := ih
    generalize lp (fX2_looks_L152  ) n = rec152 at hf hrec152
    unfold fX2_looks_L152 at hf
    dsimp only at hf
    refine go_n 5 (f := (163, [some (.ref 28), none, some (.int x2), none, none], [.ref 4, .int x2], σ)) rfl ?_
    obtain ⟨q6, h7, hf⟩ := bnd hf
    refine go_c (mid := 2821) (args := [.ref 4]) (pc := 166) (L := [some (.ref 28), none, some (.int x2), none, none]) (st := [.int x2]) (σ := σ) rfl ((fJ2_size_ok _ _ q6 h7).deep (Nat.le_of_ble_eq_true rfl)) ?_
    by_cases h8 : q6 ≤ x2
    · rw [if_pos h8] at hf
      refine go_it (t := 305) (f := 169) (L1 := [some (.ref 28), none, some (.int x2), none, none]) (st1 := []) (σ1 := σ) rfl h8 ?_
      cases hf
      exact go_r rfl
    · rw [if_neg h8] at hf
      refine go_if (t := 305) (f := 169) (L1 := [some (.ref 28), none, some (.int x2), none, none]) (st1 := []) (σ1 := σ) rfl h8 ?_
      refine go_n 2 (f := (171, [some (.ref 28), none, some (.int x2), some (.int 0), none], [], σ)) rfl ?_
      exact fX2_looks_L171_ok _ _ hrec152 N0 _ _ _ hf
def fX2_looks_J133 (x1 : Int32) (x2 : Int32) (rec84 : (Int32 × Sg) → Option Sg) (σ : Sg) : Option Sg :=
  rec84 ((x2 + (-1)), σ)
set_option maxHeartbeats 1500000 in
theorem fX2_looks_J133_ok (x1 : Int32) (x2 : Int32) (rec84 : (Int32 × Sg) → Option Sg) (σ : Sg) (hrec84 : ∀ (y2 : Int32) (τ : Sg) (r : Sg), rec84 (y2, τ) = some r → Go true 4 iX2_looks (84, [some (.ref 28), some (.int x1), some (.int y2), none, none], [], τ) (.inl none, r)) (r : Sg) (hf : fX2_looks_J133 x1 x2 rec84 σ = some r) : Go true 4 iX2_looks (133, [some (.ref 28), some (.int x1), some (.int x2), none, none], [], σ) (.inl none, r) := by
  unfold fX2_looks_J133 at hf
  refine go_n 2 (f := (84, [some (.ref 28), some (.int x1), some (.int (x2 + (-1))), none, none], [], σ)) rfl ?_
  exact hrec84 _ _ _ hf
def fX2_looks_L84 (x1 : Int32)  (rec84 : (Int32 × Sg) → Option Sg) (s : Int32 × Sg) : Option Sg :=
  match s with
  | (x2, σ) => if x2 < 0 then lp (fX2_looks_L152  ) N0 (0, (wi (wi σ 28 4 3) 28 5 12)) else (fJ2_get 4 x2 σ).bind fun q41 => if [34].elem (kk σ q41) = true then if [34].elem (kk σ q41) = true then if x1 < (gi σ q41 1) then fX2_looks_J133 x1 x2 rec84 σ else (fJ2_get 4 x2 σ).bind fun q46 => if [34].elem (kk σ q46) = true then (fX2_goes q46 σ).bind fun q49 => fX2_looks_J133 x1 x2 rec84 q49 else none else none else none
set_option maxHeartbeats 1500000 in
theorem fX2_looks_L84_ok (x1 : Int32)   : ∀ (n : Nat) (x2 : Int32) (σ : Sg) (r : Sg), lp (fX2_looks_L84 x1 ) n (x2, σ) = some r → Go true 4 iX2_looks (84, [some (.ref 28), some (.int x1), some (.int x2), none, none], [], σ) (.inl none, r) := by
  intro n
  induction n with
  | zero => intro x2 σ r hf; cases hf
  | succ n ih =>
    intro x2 σ r hf
    have hf : fX2_looks_L84 x1  (lp (fX2_looks_L84 x1 ) n) (x2, σ) = some r := hf
    have hrec84 := ih
    generalize lp (fX2_looks_L84 x1 ) n = rec84 at hf hrec84
    unfold fX2_looks_L84 at hf
    dsimp only at hf
    refine go_n 1 (f := (85, [some (.ref 28), some (.int x1), some (.int x2), none, none], [.int x2], σ)) rfl ?_
    by_cases h5 : x2 < 0
    · rw [if_pos h5] at hf
      refine go_it (t := 139) (f := 88) (L1 := [some (.ref 28), some (.int x1), some (.int x2), none, none]) (st1 := []) (σ1 := σ) rfl h5 ?_
      refine go_n 6 (f := (150, [some (.ref 28), some (.int x1), some (.int x2), none, none], [], (wi (wi σ 28 4 3) 28 5 12))) rfl ?_
      refine go_n 2 (f := (152, [some (.ref 28), some (.int x1), some (.int 0), none, none], [], (wi (wi σ 28 4 3) 28 5 12))) rfl ?_
      refine go_e (L1 := [some (.ref 28), none, some (.int 0), none, none]) rfl rfl ?_
      exact fX2_looks_L152_ok    N0 _ _ _ hf
    · rw [if_neg h5] at hf
      refine go_if (t := 139) (f := 88) (L1 := [some (.ref 28), some (.int x1), some (.int x2), none, none]) (st1 := []) (σ1 := σ) rfl h5 ?_
      refine go_n 5 (f := (99, [some (.ref 28), some (.int x1), some (.int x2), none, none], [.int x2, .ref 4], σ)) rfl ?_
      obtain ⟨q41, h42, hf⟩ := bnd hf
      refine go_c (mid := 2825) (args := [.ref 4, .int x2]) (pc := 102) (L := [some (.ref 28), some (.int x1), some (.int x2), none, none]) (st := []) (σ := σ) rfl ((fJ2_get_ok _ _ _ q41 h42).deep (Nat.le_of_ble_eq_true rfl)) ?_
      obtain ⟨h43, hf⟩ := grd hf
      refine go_cast rfl rfl rfl h43 ?_
      obtain ⟨h44, hf⟩ := grd hf
      refine go_get rfl rfl rfl h44 ?_
      refine go_n 1 (f := (109, [some (.ref 28), some (.int x1), some (.int x2), none, none], [.int x1, .int (gi σ q41 1)], σ)) rfl ?_
      by_cases h45 : x1 < (gi σ q41 1)
      · rw [if_pos h45] at hf
        refine go_it (t := 133) (f := 112) (L1 := [some (.ref 28), some (.int x1), some (.int x2), none, none]) (st1 := []) (σ1 := σ) rfl h45 ?_
        exact fX2_looks_J133_ok _ _ _ _ hrec84 _ hf
      · rw [if_neg h45] at hf
        refine go_if (t := 133) (f := 112) (L1 := [some (.ref 28), some (.int x1), some (.int x2), none, none]) (st1 := []) (σ1 := σ) rfl h45 ?_
        refine go_n 6 (f := (124, [some (.ref 28), some (.int x1), some (.int x2), none, none], [.int x2, .ref 4, .ref 28], σ)) rfl ?_
        obtain ⟨q46, h47, hf⟩ := bnd hf
        refine go_c (mid := 2825) (args := [.ref 4, .int x2]) (pc := 127) (L := [some (.ref 28), some (.int x1), some (.int x2), none, none]) (st := [.ref 28]) (σ := σ) rfl ((fJ2_get_ok _ _ _ q46 h47).deep (Nat.le_of_ble_eq_true rfl)) ?_
        obtain ⟨h48, hf⟩ := grd hf
        refine go_cast rfl rfl rfl h48 ?_
        obtain ⟨q49, h50, hf⟩ := bnd hf
        refine go_c (mid := 8194) (args := [.ref 28, .ref q46]) (pc := 133) (L := [some (.ref 28), some (.int x1), some (.int x2), none, none]) (st := []) (σ := σ) rfl ((fX2_goes_ok _ _ q49 h50).deep (Nat.le_of_ble_eq_true rfl)) ?_
        exact fX2_looks_J133_ok _ _ _ _ hrec84 _ hf
def fX2_looks_L41 (x1 : Int32)  (rec41 : (Int32 × Sg) → Option Sg) (s : Int32 × Sg) : Option Sg :=
  match s with
  | (x2, σ) => if 240 ≤ x2 then (fJ2_size 4 σ).bind fun q3 => lp (fX2_looks_L84 x1 ) N0 ((q3 - 1), σ) else if inb x2 240 then if inb x2 240 then rec41 ((x2 + 1), (wi (wi σ 29 x2.toNatClampNeg 0) 30 x2.toNatClampNeg 0)) else none else none
set_option maxHeartbeats 1500000 in
theorem fX2_looks_L41_ok (x1 : Int32)   : ∀ (n : Nat) (x2 : Int32) (σ : Sg) (r : Sg), lp (fX2_looks_L41 x1 ) n (x2, σ) = some r → Go true 4 iX2_looks (41, [some (.ref 28), some (.int x1), some (.int x2), none, none], [], σ) (.inl none, r) := by
  intro n
  induction n with
  | zero => intro x2 σ r hf; cases hf
  | succ n ih =>
    intro x2 σ r hf
    have hf : fX2_looks_L41 x1  (lp (fX2_looks_L41 x1 ) n) (x2, σ) = some r := hf
    have hrec41 := ih
    generalize lp (fX2_looks_L41 x1 ) n = rec41 at hf hrec41
    unfold fX2_looks_L41 at hf
    dsimp only at hf
    refine go_n 2 (f := (45, [some (.ref 28), some (.int x1), some (.int x2), none, none], [.int 240, .int x2], σ)) rfl ?_
    by_cases h2 : 240 ≤ x2
    · rw [if_pos h2] at hf
      refine go_it (t := 68) (f := 48) (L1 := [some (.ref 28), some (.int x1), some (.int x2), none, none]) (st1 := []) (σ1 := σ) rfl h2 ?_
      refine go_n 4 (f := (78, [some (.ref 28), some (.int x1), some (.int x2), none, none], [.ref 4], σ)) rfl ?_
      obtain ⟨q3, h4, hf⟩ := bnd hf
      refine go_c (mid := 2821) (args := [.ref 4]) (pc := 81) (L := [some (.ref 28), some (.int x1), some (.int x2), none, none]) (st := []) (σ := σ) rfl ((fJ2_size_ok _ _ q3 h4).deep (Nat.le_of_ble_eq_true rfl)) ?_
      refine go_n 3 (f := (84, [some (.ref 28), some (.int x1), some (.int (q3 - 1)), none, none], [], σ)) rfl ?_
      exact fX2_looks_L84_ok _   N0 _ _ _ hf
    · rw [if_neg h2] at hf
      refine go_if (t := 68) (f := 48) (L1 := [some (.ref 28), some (.int x1), some (.int x2), none, none]) (st1 := []) (σ1 := σ) rfl h2 ?_
      refine go_n 4 (f := (54, [some (.ref 28), some (.int x1), some (.int x2), none, none], [.int 0, .int x2, .ref 29], σ)) rfl ?_
      obtain ⟨h51, hf⟩ := grd hf
      refine go_bast rfl rfl (Or.inr rfl) h51 ?_
      refine go_n 4 (f := (61, [some (.ref 28), some (.int x1), some (.int x2), none, none], [.int 0, .int x2, .ref 30], (wi σ 29 x2.toNatClampNeg 0))) rfl ?_
      obtain ⟨h52, hf⟩ := grd hf
      refine go_bast rfl rfl (Or.inr rfl) h52 ?_
      refine go_n 2 (f := (41, [some (.ref 28), some (.int x1), some (.int (x2 + 1)), none, none], [], (wi (wi σ 29 x2.toNatClampNeg 0) 30 x2.toNatClampNeg 0))) rfl ?_
      exact hrec41 _ _ _ hf
def fX2_looks_J23 (x1 : Int32)  (σ : Sg) : Option Sg :=
  lp (fX2_looks_L41 x1 ) N0 (0, (wi (wi σ 28 2 x1) 28 3 (gi σ 0 1)))
set_option maxHeartbeats 1500000 in
theorem fX2_looks_J23_ok (x1 : Int32)  (σ : Sg)  (r : Sg) (hf : fX2_looks_J23 x1  σ = some r) : Go true 4 iX2_looks (23, [some (.ref 28), some (.int x1), none, none, none], [], σ) (.inl none, r) := by
  unfold fX2_looks_J23 at hf
  refine go_n 8 (f := (39, [some (.ref 28), some (.int x1), none, none, none], [], (wi (wi σ 28 2 x1) 28 3 (gi σ 0 1)))) rfl ?_
  refine go_n 2 (f := (41, [some (.ref 28), some (.int x1), some (.int 0), none, none], [], (wi (wi σ 28 2 x1) 28 3 (gi σ 0 1)))) rfl ?_
  exact fX2_looks_L41_ok _   N0 _ _ _ hf
def fX2_looks (x1 : Int32) (σ : Sg) : Option Sg :=
  if (gi σ 28 2) ≠ x1 then fX2_looks_J23 x1  σ else if (gi σ 28 3) ≠ (gi σ 0 1) then fX2_looks_J23 x1  σ else some σ
set_option maxHeartbeats 1500000 in
theorem fX2_looks_ok (x1 : Int32) (σ : Sg) (r : Sg) (hf : fX2_looks x1 σ = some r) : Cl true 4 8193 [.ref 28, .int x1] σ (.inl none, r) := by
  refine ⟨iX2_looks, rfl, Nat.le_of_ble_eq_true rfl, Nat.le_of_ble_eq_true rfl, ?_⟩
  show Go true 4 iX2_looks (0, [some (.ref 28), some (.int x1), none, none, none], [], σ) (.inl none, r)
  unfold fX2_looks at hf
  refine go_n 3 (f := (5, [some (.ref 28), some (.int x1), none, none, none], [.int x1, .int (gi σ 28 2)], σ)) rfl ?_
  by_cases h1 : (gi σ 28 2) ≠ x1
  · rw [if_pos h1] at hf
    refine go_it (t := 23) (f := 8) (L1 := [some (.ref 28), some (.int x1), none, none, none]) (st1 := []) (σ1 := σ) rfl h1 ?_
    exact fX2_looks_J23_ok _  _  _ hf
  · rw [if_neg h1] at hf
    refine go_if (t := 23) (f := 8) (L1 := [some (.ref 28), some (.int x1), none, none, none]) (st1 := []) (σ1 := σ) rfl h1 ?_
    refine go_n 5 (f := (19, [some (.ref 28), some (.int x1), none, none, none], [.int (gi σ 0 1), .int (gi σ 28 3)], σ)) rfl ?_
    by_cases h53 : (gi σ 28 3) ≠ (gi σ 0 1)
    · rw [if_pos h53] at hf
      refine go_it (t := 23) (f := 22) (L1 := [some (.ref 28), some (.int x1), none, none, none]) (st1 := []) (σ1 := σ) rfl h53 ?_
      exact fX2_looks_J23_ok _  _  _ hf
    · rw [if_neg h53] at hf
      refine go_if (t := 23) (f := 22) (L1 := [some (.ref 28), some (.int x1), none, none, none]) (st1 := []) (σ1 := σ) rfl h53 ?_
      cases hf
      exact go_r rfl
/-! OldWeather$Pairs.beside(II)I -/
def fX5_beside_J269 (x1 : Int32) (x2 : Int32) (x3 : Int32) (x4 : Int32) (x5 : Int32) (rec41 : (Int32 × Int32) → Option Int32) (σ : Sg) : Option Int32 :=
  rec41 (x4, (x5 + (-1)))
set_option maxHeartbeats 1500000 in
theorem fX5_beside_J269_ok (x1 : Int32) (x2 : Int32) (x3 : Int32) (x4 : Int32) (x5 : Int32) (rec41 : (Int32 × Int32) → Option Int32) (σ : Sg) (hrec41 : ∀ (y4 : Int32) (y5 : Int32) (r : Int32), rec41 (y4, y5) = some r → Go true 5 iX5_beside (41, [some (.ref 35), some (.int x1), some (.int x2), some (.int x3), some (.int y4), some (.int y5), none, none, none], [], σ) (.inl (some (.int r)), σ)) (r : Int32) (hf : fX5_beside_J269 x1 x2 x3 x4 x5 rec41 σ = some r) : Go true 5 iX5_beside (269, [some (.ref 35), some (.int x1), some (.int x2), some (.int x3), some (.int x4), some (.int x5), none, none, none], [], σ) (.inl (some (.int r)), σ) := by
  unfold fX5_beside_J269 at hf
  refine go_n 2 (f := (41, [some (.ref 35), some (.int x1), some (.int x2), some (.int x3), some (.int x4), some (.int (x5 + (-1))), none, none, none], [], σ)) rfl ?_
  exact hrec41 _ _ _ hf
def fX5_beside_J265 (x1 : Int32) (x2 : Int32) (x3 : Int32) (x5 : Int32) (rec41 : (Int32 × Int32) → Option Int32) (σ : Sg) : Option Int32 :=
  fX5_beside_J269 x1 x2 x3 x5 x5 rec41 σ
set_option maxHeartbeats 1500000 in
theorem fX5_beside_J265_ok (x1 : Int32) (x2 : Int32) (x3 : Int32) (x5 : Int32) (rec41 : (Int32 × Int32) → Option Int32) (σ : Sg) (hrec41 : ∀ (y4 : Int32) (y5 : Int32) (r : Int32), rec41 (y4, y5) = some r → Go true 5 iX5_beside (41, [some (.ref 35), some (.int x1), some (.int x2), some (.int x3), some (.int y4), some (.int y5), none, none, none], [], σ) (.inl (some (.int r)), σ)) (r : Int32) (hf : fX5_beside_J265 x1 x2 x3 x5 rec41 σ = some r) : Go true 5 iX5_beside (265, [some (.ref 35), some (.int x1), some (.int x2), some (.int x3), none, some (.int x5), none, none, none], [], σ) (.inl (some (.int r)), σ) := by
  unfold fX5_beside_J265 at hf
  refine go_n 2 (f := (269, [some (.ref 35), some (.int x1), some (.int x2), some (.int x3), some (.int x5), some (.int x5), none, none, none], [], σ)) rfl ?_
  exact fX5_beside_J269_ok _ _ _ _ _ _ _ hrec41 _ hf
def fX5_beside_J225 (x1 : Int32) (x2 : Int32) (x3 : Int32) (x4 : Int32) (x5 : Int32) (x6 : Int32) (x7 : Int32) (s0 : Int32) (rec41 : (Int32 × Int32) → Option Int32) (σ : Sg) : Option Int32 :=
  if x7 ≠ 0 then fX5_beside_J265 x1 x2 x3 x5 rec41 σ else if s0 ≠ 0 then fX5_beside_J269 x1 x2 x3 x4 x5 rec41 σ else if inb x6 16 then if inb x3 16 then ((fun (z34 : Int32) => rec41 (z34, (x5 + (-1)))) (if (gi σ 15 x6.toNatClampNeg) ≠ (gi σ 15 x3.toNatClampNeg) then x4 else x5)) else none else none
set_option maxHeartbeats 1500000 in
theorem fX5_beside_J225_ok (x1 : Int32) (x2 : Int32) (x3 : Int32) (x4 : Int32) (x5 : Int32) (x6 : Int32) (x7 : Int32) (s0 : Int32) (rec41 : (Int32 × Int32) → Option Int32) (σ : Sg) (hrec41 : ∀ (y4 : Int32) (y5 : Int32) (r : Int32), rec41 (y4, y5) = some r → Go true 5 iX5_beside (41, [some (.ref 35), some (.int x1), some (.int x2), some (.int x3), some (.int y4), some (.int y5), none, none, none], [], σ) (.inl (some (.int r)), σ)) (r : Int32) (hf : fX5_beside_J225 x1 x2 x3 x4 x5 x6 x7 s0 rec41 σ = some r) : Go true 5 iX5_beside (225, [some (.ref 35), some (.int x1), some (.int x2), some (.int x3), some (.int x4), some (.int x5), some (.int x6), some (.int x7), none], [.int s0], σ) (.inl (some (.int r)), σ) := by
  unfold fX5_beside_J225 at hf
  refine go_n 2 (f := (229, [some (.ref 35), some (.int x1), some (.int x2), some (.int x3), some (.int x4), some (.int x5), some (.int x6), some (.int x7), some (.int s0)], [.int x7], σ)) rfl ?_
  by_cases h29 : x7 ≠ 0
  · rw [if_pos h29] at hf
    refine go_it (t := 265) (f := 232) (L1 := [some (.ref 35), some (.int x1), some (.int x2), some (.int x3), some (.int x4), some (.int x5), some (.int x6), some (.int x7), some (.int s0)]) (st1 := []) (σ1 := σ) rfl h29 ?_
    refine go_e (L1 := [some (.ref 35), some (.int x1), some (.int x2), some (.int x3), none, some (.int x5), none, none, none]) rfl rfl ?_
    exact fX5_beside_J265_ok _ _ _ _ _ _ hrec41 _ hf
  · rw [if_neg h29] at hf
    refine go_if (t := 265) (f := 232) (L1 := [some (.ref 35), some (.int x1), some (.int x2), some (.int x3), some (.int x4), some (.int x5), some (.int x6), some (.int x7), some (.int s0)]) (st1 := []) (σ1 := σ) rfl h29 ?_
    refine go_n 1 (f := (234, [some (.ref 35), some (.int x1), some (.int x2), some (.int x3), some (.int x4), some (.int x5), some (.int x6), some (.int x7), some (.int s0)], [.int s0], σ)) rfl ?_
    by_cases h30 : s0 ≠ 0
    · rw [if_pos h30] at hf
      refine go_it (t := 269) (f := 237) (L1 := [some (.ref 35), some (.int x1), some (.int x2), some (.int x3), some (.int x4), some (.int x5), some (.int x6), some (.int x7), some (.int s0)]) (st1 := []) (σ1 := σ) rfl h30 ?_
      refine go_e (L1 := [some (.ref 35), some (.int x1), some (.int x2), some (.int x3), some (.int x4), some (.int x5), none, none, none]) rfl rfl ?_
      exact fX5_beside_J269_ok _ _ _ _ _ _ _ hrec41 _ hf
    · rw [if_neg h30] at hf
      refine go_if (t := 269) (f := 237) (L1 := [some (.ref 35), some (.int x1), some (.int x2), some (.int x3), some (.int x4), some (.int x5), some (.int x6), some (.int x7), some (.int s0)]) (st1 := []) (σ1 := σ) rfl h30 ?_
      refine go_n 5 (f := (249, [some (.ref 35), some (.int x1), some (.int x2), some (.int x3), some (.int x4), some (.int x5), some (.int x6), some (.int x7), some (.int s0)], [.int x6, .ref 15], σ)) rfl ?_
      obtain ⟨h31, hf⟩ := grd hf
      refine go_iald rfl rfl rfl h31 ?_
      refine go_n 5 (f := (261, [some (.ref 35), some (.int x1), some (.int x2), some (.int x3), some (.int x4), some (.int x5), some (.int x6), some (.int x7), some (.int s0)], [.int x3, .ref 15, .int (gi σ 15 x6.toNatClampNeg)], σ)) rfl ?_
      obtain ⟨h32, hf⟩ := grd hf
      refine go_iald rfl rfl rfl h32 ?_
      refine go_m (f := (269, [some (.ref 35), some (.int x1), some (.int x2), some (.int x3), some (.int (if (gi σ 15 x6.toNatClampNeg) ≠ (gi σ 15 x3.toNatClampNeg) then x4 else x5)), some (.int x5), none, none, none], [], σ)) ?_ (fun hJ35 => ?_)
      · generalize hz34 : (if (gi σ 15 x6.toNatClampNeg) ≠ (gi σ 15 x3.toNatClampNeg) then x4 else x5) = z34 at hf ⊢
        try dsimp only at hf
        refine go_n 2 (f := (41, [some (.ref 35), some (.int x1), some (.int x2), some (.int x3), some (.int z34), some (.int (x5 + (-1))), none, none, none], [], σ)) rfl ?_
        exact hrec41 _ _ _ hf
      · by_cases h33 : (gi σ 15 x6.toNatClampNeg) ≠ (gi σ 15 x3.toNatClampNeg)
        · refine go_it (t := 269) (f := 265) (L1 := [some (.ref 35), some (.int x1), some (.int x2), some (.int x3), some (.int x4), some (.int x5), some (.int x6), some (.int x7), some (.int s0)]) (st1 := []) (σ1 := σ) rfl h33 ?_
          refine go_e (L1 := [some (.ref 35), some (.int x1), some (.int x2), some (.int x3), some (.int x4), some (.int x5), none, none, none]) rfl rfl ?_
          simp only [if_pos h33] at hJ35
          first | exact hJ35 | (simp only [if_pos h33]; exact hJ35)
        · refine go_if (t := 269) (f := 265) (L1 := [some (.ref 35), some (.int x1), some (.int x2), some (.int x3), some (.int x4), some (.int x5), some (.int x6), some (.int x7), some (.int s0)]) (st1 := []) (σ1 := σ) rfl h33 ?_
          refine go_e (L1 := [some (.ref 35), some (.int x1), some (.int x2), some (.int x3), none, some (.int x5), none, none, none]) rfl rfl ?_
          refine go_n 2 (f := (269, [some (.ref 35), some (.int x1), some (.int x2), some (.int x3), some (.int x5), some (.int x5), none, none, none], [], σ)) rfl ?_
          refine go_e (L1 := [some (.ref 35), some (.int x1), some (.int x2), some (.int x3), some (.int x5), some (.int x5), none, none, none]) rfl rfl ?_
          simp only [if_neg h33] at hJ35
          first | exact hJ35 | (simp only [if_neg h33]; exact hJ35)
def fX5_beside_J224 (x1 : Int32) (x2 : Int32) (x3 : Int32) (x4 : Int32) (x5 : Int32) (x6 : Int32) (x7 : Int32) (rec41 : (Int32 × Int32) → Option Int32) (σ : Sg) : Option Int32 :=
  fX5_beside_J225 x1 x2 x3 x4 x5 x6 x7 0 rec41 σ
set_option maxHeartbeats 1500000 in
theorem fX5_beside_J224_ok (x1 : Int32) (x2 : Int32) (x3 : Int32) (x4 : Int32) (x5 : Int32) (x6 : Int32) (x7 : Int32) (rec41 : (Int32 × Int32) → Option Int32) (σ : Sg) (hrec41 : ∀ (y4 : Int32) (y5 : Int32) (r : Int32), rec41 (y4, y5) = some r → Go true 5 iX5_beside (41, [some (.ref 35), some (.int x1), some (.int x2), some (.int x3), some (.int y4), some (.int y5), none, none, none], [], σ) (.inl (some (.int r)), σ)) (r : Int32) (hf : fX5_beside_J224 x1 x2 x3 x4 x5 x6 x7 rec41 σ = some r) : Go true 5 iX5_beside (224, [some (.ref 35), some (.int x1), some (.int x2), some (.int x3), some (.int x4), some (.int x5), some (.int x6), some (.int x7), none], [], σ) (.inl (some (.int r)), σ) := by
  unfold fX5_beside_J224 at hf
  refine go_n 1 (f := (225, [some (.ref 35), some (.int x1), some (.int x2), some (.int x3), some (.int x4), some (.int x5), some (.int x6), some (.int x7), none], [.int 0], σ)) rfl ?_
  exact fX5_beside_J225_ok _ _ _ _ _ _ _ _ _ _ hrec41 _ hf
def fX5_beside_L41 (x1 : Int32) (x2 : Int32) (x3 : Int32) (σ : Sg)  (rec41 : (Int32 × Int32) → Option Int32) (s : Int32 × Int32) : Option Int32 :=
  match s with
  | (x4, x5) => if x5 < 0 then some x4 else (fJ2_get 2 x5 σ).bind fun q8 => if [17, 18, 19, 20, 21].elem (kk σ q8) = true then (am_kdo (kk σ q8)).bind fun q12 => if q12 ≠ 1 then fX5_beside_J269 x1 x2 x3 x4 x5 rec41 σ else (fX0_isSure x5 x2 σ).bind fun q14 => if q14 = 0 then fX5_beside_J269 x1 x2 x3 x4 x5 rec41 σ else if inb x5 200 then if inb x1 200 then if (gi σ 25 x5.toNatClampNeg) = (gi σ 25 x1.toNatClampNeg) then (fJ2_get 2 x5 σ).bind fun q20 => if [17, 18, 19, 20, 21].elem (kk σ q20) = true then if [17, 18, 19, 20, 21].elem (kk σ q20) = true then if inb (gi σ q20 1) 16 then if inb x3 16 then ((fun (z27 : Int32) => if x4 = (-1) then fX5_beside_J224 x1 x2 x3 x4 x5 (gi σ q20 1) z27 rec41 σ else (fJ2_get 2 x4 σ).bind fun q36 => if [17, 18, 19, 20, 21].elem (kk σ q36) = true then if [17, 18, 19, 20, 21].elem (kk σ q36) = true then if inb (gi σ q36 1) 16 then if inb x3 16 then ((fun (z43 : Int32) => if z27 ≠ 0 then fX5_beside_J265 x1 x2 x3 x5 rec41 σ else if z43 ≠ 0 then fX5_beside_J269 x1 x2 x3 x4 x5 rec41 σ else if inb (gi σ q20 1) 16 then if inb x3 16 then ((fun (z49 : Int32) => rec41 (z49, (x5 + (-1)))) (if (gi σ 15 (gi σ q20 1).toNatClampNeg) ≠ (gi σ 15 x3.toNatClampNeg) then x4 else x5)) else none else none) ((if (gi σ 14 (gi σ q36 1).toNatClampNeg) ≠ (gi σ 14 x3.toNatClampNeg) then 0 else 1) : Int32)) else none else none else none else none) ((if (gi σ 14 (gi σ q20 1).toNatClampNeg) ≠ (gi σ 14 x3.toNatClampNeg) then 0 else 1) : Int32)) else none else none else none else none else fX5_beside_J269 x1 x2 x3 x4 x5 rec41 σ else none else none else none
set_option maxHeartbeats 1500000 in
theorem fX5_beside_L41_ok (x1 : Int32) (x2 : Int32) (x3 : Int32) (σ : Sg)   : ∀ (n : Nat) (x4 : Int32) (x5 : Int32) (r : Int32), lp (fX5_beside_L41 x1 x2 x3 σ ) n (x4, x5) = some r → Go true 5 iX5_beside (41, [some (.ref 35), some (.int x1), some (.int x2), some (.int x3), some (.int x4), some (.int x5), none, none, none], [], σ) (.inl (some (.int r)), σ) := by
  intro n
  induction n with
  | zero => intro x4 x5 r hf; cases hf
  | succ n ih =>
    intro x4 x5 r hf
    have hf : fX5_beside_L41 x1 x2 x3 σ  (lp (fX5_beside_L41 x1 x2 x3 σ ) n) (x4, x5) = some r := hf
    have hrec41 := ih
    generalize lp (fX5_beside_L41 x1 x2 x3 σ ) n = rec41 at hf hrec41
    unfold fX5_beside_L41 at hf
    dsimp only at hf
    refine go_n 1 (f := (43, [some (.ref 35), some (.int x1), some (.int x2), some (.int x3), some (.int x4), some (.int x5), none, none, none], [.int x5], σ)) rfl ?_
    by_cases h7 : x5 < 0
    · rw [if_pos h7] at hf
      refine go_it (t := 275) (f := 46) (L1 := [some (.ref 35), some (.int x1), some (.int x2), some (.int x3), some (.int x4), some (.int x5), none, none, none]) (st1 := []) (σ1 := σ) rfl h7 ?_
      refine go_n 1 (f := (277, [some (.ref 35), some (.int x1), some (.int x2), some (.int x3), some (.int x4), some (.int x5), none, none, none], [.int x4], σ)) rfl ?_
      cases hf
      exact go_r rfl
    · rw [if_neg h7] at hf
      refine go_if (t := 275) (f := 46) (L1 := [some (.ref 35), some (.int x1), some (.int x2), some (.int x3), some (.int x4), some (.int x5), none, none, none]) (st1 := []) (σ1 := σ) rfl h7 ?_
      refine go_n 5 (f := (58, [some (.ref 35), some (.int x1), some (.int x2), some (.int x3), some (.int x4), some (.int x5), none, none, none], [.int x5, .ref 2], σ)) rfl ?_
      obtain ⟨q8, h9, hf⟩ := bnd hf
      refine go_c (mid := 2825) (args := [.ref 2, .int x5]) (pc := 61) (L := [some (.ref 35), some (.int x1), some (.int x2), some (.int x3), some (.int x4), some (.int x5), none, none, none]) (st := []) (σ := σ) rfl ((fJ2_get_ok _ _ _ q8 h9).deep (Nat.le_of_ble_eq_true rfl)) ?_
      obtain ⟨h10, hf⟩ := grd hf
      refine go_cast rfl rfl rfl h10 ?_
      obtain ⟨q12, h11, hf⟩ := bnd hf
      refine go_b (mid := 20007) (args := [.ref q8]) (pc := 67) (L := [some (.ref 35), some (.int x1), some (.int x2), some (.int x3), some (.int x4), some (.int x5), none, none, none]) (st := []) (σ := σ) rfl (by decide) (am_bi_kdo h11) ?_
      refine go_n 1 (f := (68, [some (.ref 35), some (.int x1), some (.int x2), some (.int x3), some (.int x4), some (.int x5), none, none, none], [.int 1, .int q12], σ)) rfl ?_
      by_cases h13 : q12 ≠ 1
      · rw [if_pos h13] at hf
        refine go_it (t := 269) (f := 71) (L1 := [some (.ref 35), some (.int x1), some (.int x2), some (.int x3), some (.int x4), some (.int x5), none, none, none]) (st1 := []) (σ1 := σ) rfl h13 ?_
        exact fX5_beside_J269_ok _ _ _ _ _ _ _ hrec41 _ hf
      · rw [if_neg h13] at hf
        refine go_if (t := 269) (f := 71) (L1 := [some (.ref 35), some (.int x1), some (.int x2), some (.int x3), some (.int x4), some (.int x5), none, none, none]) (st1 := []) (σ1 := σ) rfl h13 ?_
        refine go_n 4 (f := (78, [some (.ref 35), some (.int x1), some (.int x2), some (.int x3), some (.int x4), some (.int x5), none, none, none], [.int x2, .int x5, .ref 0], σ)) rfl ?_
        obtain ⟨q14, h15, hf⟩ := bnd hf
        refine go_c (mid := 5169) (args := [.ref 0, .int x5, .int x2]) (pc := 81) (L := [some (.ref 35), some (.int x1), some (.int x2), some (.int x3), some (.int x4), some (.int x5), none, none, none]) (st := []) (σ := σ) rfl ((fX0_isSure_ok _ _ _ q14 h15).deep (Nat.le_of_ble_eq_true rfl)) ?_
        by_cases h16 : q14 = 0
        · rw [if_pos h16] at hf
          refine go_it (t := 269) (f := 84) (L1 := [some (.ref 35), some (.int x1), some (.int x2), some (.int x3), some (.int x4), some (.int x5), none, none, none]) (st1 := []) (σ1 := σ) rfl h16 ?_
          exact fX5_beside_J269_ok _ _ _ _ _ _ _ hrec41 _ hf
        · rw [if_neg h16] at hf
          refine go_if (t := 269) (f := 84) (L1 := [some (.ref 35), some (.int x1), some (.int x2), some (.int x3), some (.int x4), some (.int x5), none, none, none]) (st1 := []) (σ1 := σ) rfl h16 ?_
          refine go_n 4 (f := (93, [some (.ref 35), some (.int x1), some (.int x2), some (.int x3), some (.int x4), some (.int x5), none, none, none], [.int x5, .ref 25], σ)) rfl ?_
          obtain ⟨h17, hf⟩ := grd hf
          refine go_iald rfl rfl rfl h17 ?_
          refine go_n 4 (f := (102, [some (.ref 35), some (.int x1), some (.int x2), some (.int x3), some (.int x4), some (.int x5), none, none, none], [.int x1, .ref 25, .int (gi σ 25 x5.toNatClampNeg)], σ)) rfl ?_
          obtain ⟨h18, hf⟩ := grd hf
          refine go_iald rfl rfl rfl h18 ?_
          by_cases h19 : (gi σ 25 x5.toNatClampNeg) = (gi σ 25 x1.toNatClampNeg)
          · rw [if_pos h19] at hf
            refine go_it (t := 109) (f := 106) (L1 := [some (.ref 35), some (.int x1), some (.int x2), some (.int x3), some (.int x4), some (.int x5), none, none, none]) (st1 := []) (σ1 := σ) rfl h19 ?_
            refine go_n 5 (f := (121, [some (.ref 35), some (.int x1), some (.int x2), some (.int x3), some (.int x4), some (.int x5), none, none, none], [.int x5, .ref 2], σ)) rfl ?_
            obtain ⟨q20, h21, hf⟩ := bnd hf
            refine go_c (mid := 2825) (args := [.ref 2, .int x5]) (pc := 124) (L := [some (.ref 35), some (.int x1), some (.int x2), some (.int x3), some (.int x4), some (.int x5), none, none, none]) (st := []) (σ := σ) rfl ((fJ2_get_ok _ _ _ q20 h21).deep (Nat.le_of_ble_eq_true rfl)) ?_
            obtain ⟨h22, hf⟩ := grd hf
            refine go_cast rfl rfl rfl h22 ?_
            obtain ⟨h23, hf⟩ := grd hf
            refine go_get rfl rfl rfl h23 ?_
            refine go_n 6 (f := (144, [some (.ref 35), some (.int x1), some (.int x2), some (.int x3), some (.int x4), some (.int x5), some (.int (gi σ q20 1)), none, none], [.int (gi σ q20 1), .ref 14], σ)) rfl ?_
            obtain ⟨h24, hf⟩ := grd hf
            refine go_iald rfl rfl rfl h24 ?_
            refine go_n 5 (f := (156, [some (.ref 35), some (.int x1), some (.int x2), some (.int x3), some (.int x4), some (.int x5), some (.int (gi σ q20 1)), none, none], [.int x3, .ref 14, .int (gi σ 14 (gi σ q20 1).toNatClampNeg)], σ)) rfl ?_
            obtain ⟨h25, hf⟩ := grd hf
            refine go_iald rfl rfl rfl h25 ?_
            refine go_m (f := (165, [some (.ref 35), some (.int x1), some (.int x2), some (.int x3), some (.int x4), some (.int x5), some (.int (gi σ q20 1)), none, none], [.int ((if (gi σ 14 (gi σ q20 1).toNatClampNeg) ≠ (gi σ 14 x3.toNatClampNeg) then 0 else 1) : Int32)], σ)) ?_ (fun hJ52 => ?_)
            · generalize hz27 : ((if (gi σ 14 (gi σ q20 1).toNatClampNeg) ≠ (gi σ 14 x3.toNatClampNeg) then 0 else 1) : Int32) = z27 at hf ⊢
              have oz27 : am_ok 3 z27 = true := hz27 ▸ (okb rfl rfl)
              try dsimp only at hf
              refine go_n 3 (f := (170, [some (.ref 35), some (.int x1), some (.int x2), some (.int x3), some (.int x4), some (.int x5), some (.int (gi σ q20 1)), some (.int z27), none], [.int (-1), .int x4], σ)) rfl ?_
              by_cases h28 : x4 = (-1)
              · rw [if_pos h28] at hf
                refine go_it (t := 224) (f := 173) (L1 := [some (.ref 35), some (.int x1), some (.int x2), some (.int x3), some (.int x4), some (.int x5), some (.int (gi σ q20 1)), some (.int z27), none]) (st1 := []) (σ1 := σ) rfl h28 ?_
                exact fX5_beside_J224_ok _ _ _ _ _ _ _ _ _ hrec41 _ hf
              · rw [if_neg h28] at hf
                refine go_if (t := 224) (f := 173) (L1 := [some (.ref 35), some (.int x1), some (.int x2), some (.int x3), some (.int x4), some (.int x5), some (.int (gi σ q20 1)), some (.int z27), none]) (st1 := []) (σ1 := σ) rfl h28 ?_
                refine go_n 9 (f := (195, [some (.ref 35), some (.int x1), some (.int x2), some (.int x3), some (.int x4), some (.int x5), some (.int (gi σ q20 1)), some (.int z27), none], [.int x4, .ref 2, .ref 14], σ)) rfl ?_
                obtain ⟨q36, h37, hf⟩ := bnd hf
                refine go_c (mid := 2825) (args := [.ref 2, .int x4]) (pc := 198) (L := [some (.ref 35), some (.int x1), some (.int x2), some (.int x3), some (.int x4), some (.int x5), some (.int (gi σ q20 1)), some (.int z27), none]) (st := [.ref 14]) (σ := σ) rfl ((fJ2_get_ok _ _ _ q36 h37).deep (Nat.le_of_ble_eq_true rfl)) ?_
                obtain ⟨h38, hf⟩ := grd hf
                refine go_cast rfl rfl rfl h38 ?_
                obtain ⟨h39, hf⟩ := grd hf
                refine go_get rfl rfl rfl h39 ?_
                obtain ⟨h40, hf⟩ := grd hf
                refine go_iald rfl rfl rfl h40 ?_
                refine go_n 5 (f := (216, [some (.ref 35), some (.int x1), some (.int x2), some (.int x3), some (.int x4), some (.int x5), some (.int (gi σ q20 1)), some (.int z27), none], [.int x3, .ref 14, .int (gi σ 14 (gi σ q36 1).toNatClampNeg)], σ)) rfl ?_
                obtain ⟨h41, hf⟩ := grd hf
                refine go_iald rfl rfl rfl h41 ?_
                refine go_m (f := (225, [some (.ref 35), some (.int x1), some (.int x2), some (.int x3), some (.int x4), some (.int x5), some (.int (gi σ q20 1)), some (.int z27), none], [.int ((if (gi σ 14 (gi σ q36 1).toNatClampNeg) ≠ (gi σ 14 x3.toNatClampNeg) then 0 else 1) : Int32)], σ)) ?_ (fun hJ51 => ?_)
                · generalize hz43 : ((if (gi σ 14 (gi σ q36 1).toNatClampNeg) ≠ (gi σ 14 x3.toNatClampNeg) then 0 else 1) : Int32) = z43 at hf ⊢
                  have oz43 : am_ok 3 z43 = true := hz43 ▸ (okb rfl rfl)
                  try dsimp only at hf
                  refine go_n 2 (f := (229, [some (.ref 35), some (.int x1), some (.int x2), some (.int x3), some (.int x4), some (.int x5), some (.int (gi σ q20 1)), some (.int z27), some (.int z43)], [.int z27], σ)) rfl ?_
                  by_cases h44 : z27 ≠ 0
                  · rw [if_pos h44] at hf
                    refine go_it (t := 265) (f := 232) (L1 := [some (.ref 35), some (.int x1), some (.int x2), some (.int x3), some (.int x4), some (.int x5), some (.int (gi σ q20 1)), some (.int z27), some (.int z43)]) (st1 := []) (σ1 := σ) rfl h44 ?_
                    refine go_e (L1 := [some (.ref 35), some (.int x1), some (.int x2), some (.int x3), none, some (.int x5), none, none, none]) rfl rfl ?_
                    exact fX5_beside_J265_ok _ _ _ _ _ _ hrec41 _ hf
                  · rw [if_neg h44] at hf
                    refine go_if (t := 265) (f := 232) (L1 := [some (.ref 35), some (.int x1), some (.int x2), some (.int x3), some (.int x4), some (.int x5), some (.int (gi σ q20 1)), some (.int z27), some (.int z43)]) (st1 := []) (σ1 := σ) rfl h44 ?_
                    refine go_n 1 (f := (234, [some (.ref 35), some (.int x1), some (.int x2), some (.int x3), some (.int x4), some (.int x5), some (.int (gi σ q20 1)), some (.int z27), some (.int z43)], [.int z43], σ)) rfl ?_
                    by_cases h45 : z43 ≠ 0
                    · rw [if_pos h45] at hf
                      refine go_it (t := 269) (f := 237) (L1 := [some (.ref 35), some (.int x1), some (.int x2), some (.int x3), some (.int x4), some (.int x5), some (.int (gi σ q20 1)), some (.int z27), some (.int z43)]) (st1 := []) (σ1 := σ) rfl h45 ?_
                      refine go_e (L1 := [some (.ref 35), some (.int x1), some (.int x2), some (.int x3), some (.int x4), some (.int x5), none, none, none]) rfl rfl ?_
                      exact fX5_beside_J269_ok _ _ _ _ _ _ _ hrec41 _ hf
                    · rw [if_neg h45] at hf
                      refine go_if (t := 269) (f := 237) (L1 := [some (.ref 35), some (.int x1), some (.int x2), some (.int x3), some (.int x4), some (.int x5), some (.int (gi σ q20 1)), some (.int z27), some (.int z43)]) (st1 := []) (σ1 := σ) rfl h45 ?_
                      refine go_n 5 (f := (249, [some (.ref 35), some (.int x1), some (.int x2), some (.int x3), some (.int x4), some (.int x5), some (.int (gi σ q20 1)), some (.int z27), some (.int z43)], [.int (gi σ q20 1), .ref 15], σ)) rfl ?_
                      obtain ⟨h46, hf⟩ := grd hf
                      refine go_iald rfl rfl rfl h46 ?_
                      refine go_n 5 (f := (261, [some (.ref 35), some (.int x1), some (.int x2), some (.int x3), some (.int x4), some (.int x5), some (.int (gi σ q20 1)), some (.int z27), some (.int z43)], [.int x3, .ref 15, .int (gi σ 15 (gi σ q20 1).toNatClampNeg)], σ)) rfl ?_
                      obtain ⟨h47, hf⟩ := grd hf
                      refine go_iald rfl rfl rfl h47 ?_
                      refine go_m (f := (269, [some (.ref 35), some (.int x1), some (.int x2), some (.int x3), some (.int (if (gi σ 15 (gi σ q20 1).toNatClampNeg) ≠ (gi σ 15 x3.toNatClampNeg) then x4 else x5)), some (.int x5), none, none, none], [], σ)) ?_ (fun hJ50 => ?_)
                      · generalize hz49 : (if (gi σ 15 (gi σ q20 1).toNatClampNeg) ≠ (gi σ 15 x3.toNatClampNeg) then x4 else x5) = z49 at hf ⊢
                        try dsimp only at hf
                        refine go_n 2 (f := (41, [some (.ref 35), some (.int x1), some (.int x2), some (.int x3), some (.int z49), some (.int (x5 + (-1))), none, none, none], [], σ)) rfl ?_
                        exact hrec41 _ _ _ hf
                      · by_cases h48 : (gi σ 15 (gi σ q20 1).toNatClampNeg) ≠ (gi σ 15 x3.toNatClampNeg)
                        · refine go_it (t := 269) (f := 265) (L1 := [some (.ref 35), some (.int x1), some (.int x2), some (.int x3), some (.int x4), some (.int x5), some (.int (gi σ q20 1)), some (.int z27), some (.int z43)]) (st1 := []) (σ1 := σ) rfl h48 ?_
                          refine go_e (L1 := [some (.ref 35), some (.int x1), some (.int x2), some (.int x3), some (.int x4), some (.int x5), none, none, none]) rfl rfl ?_
                          simp only [if_pos h48] at hJ50
                          first | exact hJ50 | (simp only [if_pos h48]; exact hJ50)
                        · refine go_if (t := 269) (f := 265) (L1 := [some (.ref 35), some (.int x1), some (.int x2), some (.int x3), some (.int x4), some (.int x5), some (.int (gi σ q20 1)), some (.int z27), some (.int z43)]) (st1 := []) (σ1 := σ) rfl h48 ?_
                          refine go_e (L1 := [some (.ref 35), some (.int x1), some (.int x2), some (.int x3), none, some (.int x5), none, none, none]) rfl rfl ?_
                          refine go_n 2 (f := (269, [some (.ref 35), some (.int x1), some (.int x2), some (.int x3), some (.int x5), some (.int x5), none, none, none], [], σ)) rfl ?_
                          refine go_e (L1 := [some (.ref 35), some (.int x1), some (.int x2), some (.int x3), some (.int x5), some (.int x5), none, none, none]) rfl rfl ?_
                          simp only [if_neg h48] at hJ50
                          first | exact hJ50 | (simp only [if_neg h48]; exact hJ50)
                · by_cases h42 : (gi σ 14 (gi σ q36 1).toNatClampNeg) ≠ (gi σ 14 x3.toNatClampNeg)
                  · refine go_it (t := 224) (f := 220) (L1 := [some (.ref 35), some (.int x1), some (.int x2), some (.int x3), some (.int x4), some (.int x5), some (.int (gi σ q20 1)), some (.int z27), none]) (st1 := []) (σ1 := σ) rfl h42 ?_
                    refine go_n 1 (f := (225, [some (.ref 35), some (.int x1), some (.int x2), some (.int x3), some (.int x4), some (.int x5), some (.int (gi σ q20 1)), some (.int z27), none], [.int 0], σ)) rfl ?_
                    refine go_e (L1 := [some (.ref 35), some (.int x1), some (.int x2), some (.int x3), some (.int x4), some (.int x5), some (.int (gi σ q20 1)), some (.int z27), none]) rfl rfl ?_
                    simp only [if_pos h42] at hJ51
                    first | exact hJ51 | (simp only [if_pos h42]; exact hJ51)
                  · refine go_if (t := 224) (f := 220) (L1 := [some (.ref 35), some (.int x1), some (.int x2), some (.int x3), some (.int x4), some (.int x5), some (.int (gi σ q20 1)), some (.int z27), none]) (st1 := []) (σ1 := σ) rfl h42 ?_
                    refine go_n 2 (f := (225, [some (.ref 35), some (.int x1), some (.int x2), some (.int x3), some (.int x4), some (.int x5), some (.int (gi σ q20 1)), some (.int z27), none], [.int 1], σ)) rfl ?_
                    refine go_e (L1 := [some (.ref 35), some (.int x1), some (.int x2), some (.int x3), some (.int x4), some (.int x5), some (.int (gi σ q20 1)), some (.int z27), none]) rfl rfl ?_
                    simp only [if_neg h42] at hJ51
                    first | exact hJ51 | (simp only [if_neg h42]; exact hJ51)
            · by_cases h26 : (gi σ 14 (gi σ q20 1).toNatClampNeg) ≠ (gi σ 14 x3.toNatClampNeg)
              · refine go_it (t := 164) (f := 160) (L1 := [some (.ref 35), some (.int x1), some (.int x2), some (.int x3), some (.int x4), some (.int x5), some (.int (gi σ q20 1)), none, none]) (st1 := []) (σ1 := σ) rfl h26 ?_
                refine go_n 1 (f := (165, [some (.ref 35), some (.int x1), some (.int x2), some (.int x3), some (.int x4), some (.int x5), some (.int (gi σ q20 1)), none, none], [.int 0], σ)) rfl ?_
                refine go_e (L1 := [some (.ref 35), some (.int x1), some (.int x2), some (.int x3), some (.int x4), some (.int x5), some (.int (gi σ q20 1)), none, none]) rfl rfl ?_
                simp only [if_pos h26] at hJ52
                first | exact hJ52 | (simp only [if_pos h26]; exact hJ52)
              · refine go_if (t := 164) (f := 160) (L1 := [some (.ref 35), some (.int x1), some (.int x2), some (.int x3), some (.int x4), some (.int x5), some (.int (gi σ q20 1)), none, none]) (st1 := []) (σ1 := σ) rfl h26 ?_
                refine go_n 2 (f := (165, [some (.ref 35), some (.int x1), some (.int x2), some (.int x3), some (.int x4), some (.int x5), some (.int (gi σ q20 1)), none, none], [.int 1], σ)) rfl ?_
                refine go_e (L1 := [some (.ref 35), some (.int x1), some (.int x2), some (.int x3), some (.int x4), some (.int x5), some (.int (gi σ q20 1)), none, none]) rfl rfl ?_
                simp only [if_neg h26] at hJ52
                first | exact hJ52 | (simp only [if_neg h26]; exact hJ52)
          · rw [if_neg h19] at hf
            refine go_if (t := 109) (f := 106) (L1 := [some (.ref 35), some (.int x1), some (.int x2), some (.int x3), some (.int x4), some (.int x5), none, none, none]) (st1 := []) (σ1 := σ) rfl h19 ?_
            refine go_n 1 (f := (269, [some (.ref 35), some (.int x1), some (.int x2), some (.int x3), some (.int x4), some (.int x5), none, none, none], [], σ)) rfl ?_
            exact fX5_beside_J269_ok _ _ _ _ _ _ _ hrec41 _ hf
def fX5_beside (x1 : Int32) (x2 : Int32) (σ : Sg) : Option Int32 :=
  (fJ2_get 2 x1 σ).bind fun q1 => if [17, 18, 19, 20, 21].elem (kk σ q1) = true then if [17, 18, 19, 20, 21].elem (kk σ q1) = true then (fJ2_size 2 σ).bind fun q5 => lp (fX5_beside_L41 x1 x2 (gi σ q1 1) σ ) N0 ((-1), (q5 - 1)) else none else none
set_option maxHeartbeats 1500000 in
theorem fX5_beside_ok (x1 : Int32) (x2 : Int32) (σ : Sg) (r : Int32) (hf : fX5_beside x1 x2 σ = some r) : Cl true 5 11522 [.ref 35, .int x1, .int x2] σ (.inl (some (.int r)), σ) := by
  refine ⟨iX5_beside, rfl, Nat.le_of_ble_eq_true rfl, Nat.le_of_ble_eq_true rfl, ?_⟩
  show Go true 5 iX5_beside (0, [some (.ref 35), some (.int x1), some (.int x2), none, none, none, none, none, none], [], σ) (.inl (some (.int r)), σ)
  unfold fX5_beside at hf
  refine go_n 5 (f := (11, [some (.ref 35), some (.int x1), some (.int x2), none, none, none, none, none, none], [.int x1, .ref 2], σ)) rfl ?_
  obtain ⟨q1, h2, hf⟩ := bnd hf
  refine go_c (mid := 2825) (args := [.ref 2, .int x1]) (pc := 14) (L := [some (.ref 35), some (.int x1), some (.int x2), none, none, none, none, none, none]) (st := []) (σ := σ) rfl ((fJ2_get_ok _ _ _ q1 h2).deep (Nat.le_of_ble_eq_true rfl)) ?_
  obtain ⟨h3, hf⟩ := grd hf
  refine go_cast rfl rfl rfl h3 ?_
  obtain ⟨h4, hf⟩ := grd hf
  refine go_get rfl rfl rfl h4 ?_
  refine go_n 3 (f := (24, [some (.ref 35), some (.int x1), some (.int x2), some (.int (gi σ q1 1)), some (.int (-1)), none, none, none, none], [], σ)) rfl ?_
  refine go_n 4 (f := (34, [some (.ref 35), some (.int x1), some (.int x2), some (.int (gi σ q1 1)), some (.int (-1)), none, none, none, none], [.ref 2], σ)) rfl ?_
  obtain ⟨q5, h6, hf⟩ := bnd hf
  refine go_c (mid := 2821) (args := [.ref 2]) (pc := 37) (L := [some (.ref 35), some (.int x1), some (.int x2), some (.int (gi σ q1 1)), some (.int (-1)), none, none, none, none]) (st := []) (σ := σ) rfl ((fJ2_size_ok _ _ q5 h6).deep (Nat.le_of_ble_eq_true rfl)) ?_
  refine go_n 3 (f := (41, [some (.ref 35), some (.int x1), some (.int x2), some (.int (gi σ q1 1)), some (.int (-1)), some (.int (q5 - 1)), none, none, none], [], σ)) rfl ?_
  exact fX5_beside_L41_ok _ _ _ _   N0 _ _ _ hf
/-! OldWeather$Desk.joins(I)V -/
def fX6_joins_J135 (x1 : Int32) (x2 : Int32) (x3 : Int32) (rec34 : (Int32 × Sg) → Option Sg) (rec52 : (Int32 × Sg) → Option Sg) (σ : Sg) : Option Sg :=
  rec52 ((x3 + 1), σ)
set_option maxHeartbeats 1500000 in
theorem fX6_joins_J135_ok (x1 : Int32) (x2 : Int32) (x3 : Int32) (rec34 : (Int32 × Sg) → Option Sg) (rec52 : (Int32 × Sg) → Option Sg) (σ : Sg) (hrec34 : ∀ (y2 : Int32) (τ : Sg) (r : Sg), rec34 (y2, τ) = some r → Go true 5 iX6_joins (34, [some (.ref 39), some (.int x1), some (.int y2), none], [], τ) (.inl none, r)) (hrec52 : ∀ (y3 : Int32) (τ : Sg) (r : Sg), rec52 (y3, τ) = some r → Go true 5 iX6_joins (52, [some (.ref 39), some (.int x1), some (.int x2), some (.int y3)], [], τ) (.inl none, r)) (r : Sg) (hf : fX6_joins_J135 x1 x2 x3 rec34 rec52 σ = some r) : Go true 5 iX6_joins (135, [some (.ref 39), some (.int x1), some (.int x2), some (.int x3)], [], σ) (.inl none, r) := by
  unfold fX6_joins_J135 at hf
  refine go_n 2 (f := (52, [some (.ref 39), some (.int x1), some (.int x2), some (.int (x3 + 1))], [], σ)) rfl ?_
  exact hrec52 _ _ _ hf
def fX6_joins_L52 (x1 : Int32) (x2 : Int32) (rec34 : (Int32 × Sg) → Option Sg) (rec52 : (Int32 × Sg) → Option Sg) (s : Int32 × Sg) : Option Sg :=
  match s with
  | (x3, σ) => if (gi σ 1 19) ≤ x3 then rec34 ((x2 + 1), σ) else if inb x2 16 then if inb x3 16 then if (gi σ 40 x2.toNatClampNeg) = (gi σ 40 x3.toNatClampNeg) then fX6_joins_J135 x1 x2 x3 rec34 rec52 σ else (fX6_sharesOf x2 x3 x1 σ).bind fun q9 => if q9 < (gi σ 28 4) then fX6_joins_J135 x1 x2 x3 rec34 rec52 σ else if inb x2 16 then if inb x3 16 then (fJ5_min (gi σ 40 x2.toNatClampNeg) (gi σ 40 x3.toNatClampNeg)).bind fun q14 => if inb x2 16 then if inb x3 16 then (fJ5_max (gi σ 40 x2.toNatClampNeg) (gi σ 40 x3.toNatClampNeg)).bind fun q18 => (fX6_merges q14 q18 σ).bind fun q20 => fX6_joins_J135 x1 x2 x3 rec34 rec52 q20 else none else none else none else none else none else none
set_option maxHeartbeats 1500000 in
theorem fX6_joins_L52_ok (x1 : Int32) (x2 : Int32) (rec34 : (Int32 × Sg) → Option Sg) (hrec34 : ∀ (y2 : Int32) (τ : Sg) (r : Sg), rec34 (y2, τ) = some r → Go true 5 iX6_joins (34, [some (.ref 39), some (.int x1), some (.int y2), none], [], τ) (.inl none, r)) : ∀ (n : Nat) (x3 : Int32) (σ : Sg) (r : Sg), lp (fX6_joins_L52 x1 x2 rec34) n (x3, σ) = some r → Go true 5 iX6_joins (52, [some (.ref 39), some (.int x1), some (.int x2), some (.int x3)], [], σ) (.inl none, r) := by
  intro n
  induction n with
  | zero => intro x3 σ r hf; cases hf
  | succ n ih =>
    intro x3 σ r hf
    have hf : fX6_joins_L52 x1 x2 rec34 (lp (fX6_joins_L52 x1 x2 rec34) n) (x3, σ) = some r := hf
    have hrec52 := ih
    generalize lp (fX6_joins_L52 x1 x2 rec34) n = rec52 at hf hrec52
    unfold fX6_joins_L52 at hf
    dsimp only at hf
    refine go_n 5 (f := (63, [some (.ref 39), some (.int x1), some (.int x2), some (.int x3)], [.int (gi σ 1 19), .int x3], σ)) rfl ?_
    by_cases h5 : (gi σ 1 19) ≤ x3
    · rw [if_pos h5] at hf
      refine go_it (t := 141) (f := 66) (L1 := [some (.ref 39), some (.int x1), some (.int x2), some (.int x3)]) (st1 := []) (σ1 := σ) rfl h5 ?_
      refine go_n 2 (f := (34, [some (.ref 39), some (.int x1), some (.int (x2 + 1)), some (.int x3)], [], σ)) rfl ?_
      refine go_e (L1 := [some (.ref 39), some (.int x1), some (.int (x2 + 1)), none]) rfl rfl ?_
      exact hrec34 _ _ _ hf
    · rw [if_neg h5] at hf
      refine go_if (t := 141) (f := 66) (L1 := [some (.ref 39), some (.int x1), some (.int x2), some (.int x3)]) (st1 := []) (σ1 := σ) rfl h5 ?_
      refine go_n 3 (f := (71, [some (.ref 39), some (.int x1), some (.int x2), some (.int x3)], [.int x2, .ref 40], σ)) rfl ?_
      obtain ⟨h6, hf⟩ := grd hf
      refine go_iald rfl rfl rfl h6 ?_
      refine go_n 3 (f := (77, [some (.ref 39), some (.int x1), some (.int x2), some (.int x3)], [.int x3, .ref 40, .int (gi σ 40 x2.toNatClampNeg)], σ)) rfl ?_
      obtain ⟨h7, hf⟩ := grd hf
      refine go_iald rfl rfl rfl h7 ?_
      by_cases h8 : (gi σ 40 x2.toNatClampNeg) = (gi σ 40 x3.toNatClampNeg)
      · rw [if_pos h8] at hf
        refine go_it (t := 135) (f := 81) (L1 := [some (.ref 39), some (.int x1), some (.int x2), some (.int x3)]) (st1 := []) (σ1 := σ) rfl h8 ?_
        exact fX6_joins_J135_ok _ _ _ _ _ _ hrec34 hrec52 _ hf
      · rw [if_neg h8] at hf
        refine go_if (t := 135) (f := 81) (L1 := [some (.ref 39), some (.int x1), some (.int x2), some (.int x3)]) (st1 := []) (σ1 := σ) rfl h8 ?_
        refine go_n 4 (f := (85, [some (.ref 39), some (.int x1), some (.int x2), some (.int x3)], [.int x1, .int x3, .int x2, .ref 39], σ)) rfl ?_
        obtain ⟨q9, h10, hf⟩ := bnd hf
        refine go_c (mid := 11779) (args := [.ref 39, .int x2, .int x3, .int x1]) (pc := 88) (L := [some (.ref 39), some (.int x1), some (.int x2), some (.int x3)]) (st := []) (σ := σ) rfl ((fX6_sharesOf_ok _ _ _ _ q9 h10).deep (Nat.le_of_ble_eq_true rfl)) ?_
        refine go_n 4 (f := (98, [some (.ref 39), some (.int x1), some (.int x2), some (.int x3)], [.int (gi σ 28 4), .int q9], σ)) rfl ?_
        by_cases h11 : q9 < (gi σ 28 4)
        · rw [if_pos h11] at hf
          refine go_it (t := 135) (f := 101) (L1 := [some (.ref 39), some (.int x1), some (.int x2), some (.int x3)]) (st1 := []) (σ1 := σ) rfl h11 ?_
          exact fX6_joins_J135_ok _ _ _ _ _ _ hrec34 hrec52 _ hf
        · rw [if_neg h11] at hf
          refine go_if (t := 135) (f := 101) (L1 := [some (.ref 39), some (.int x1), some (.int x2), some (.int x3)]) (st1 := []) (σ1 := σ) rfl h11 ?_
          refine go_n 4 (f := (107, [some (.ref 39), some (.int x1), some (.int x2), some (.int x3)], [.int x2, .ref 40, .ref 39], σ)) rfl ?_
          obtain ⟨h12, hf⟩ := grd hf
          refine go_iald rfl rfl rfl h12 ?_
          refine go_n 3 (f := (113, [some (.ref 39), some (.int x1), some (.int x2), some (.int x3)], [.int x3, .ref 40, .int (gi σ 40 x2.toNatClampNeg), .ref 39], σ)) rfl ?_
          obtain ⟨h13, hf⟩ := grd hf
          refine go_iald rfl rfl rfl h13 ?_
          obtain ⟨q14, h15, hf⟩ := bnd hf
          refine go_c (mid := 3585) (args := [.int (gi σ 40 x2.toNatClampNeg), .int (gi σ 40 x3.toNatClampNeg)]) (pc := 117) (L := [some (.ref 39), some (.int x1), some (.int x2), some (.int x3)]) (st := [.ref 39]) (σ := σ) rfl ((fJ5_min_ok _ _ _ q14 h15).deep (Nat.le_of_ble_eq_true rfl)) ?_
          refine go_n 3 (f := (122, [some (.ref 39), some (.int x1), some (.int x2), some (.int x3)], [.int x2, .ref 40, .int q14, .ref 39], σ)) rfl ?_
          obtain ⟨h16, hf⟩ := grd hf
          refine go_iald rfl rfl rfl h16 ?_
          refine go_n 3 (f := (128, [some (.ref 39), some (.int x1), some (.int x2), some (.int x3)], [.int x3, .ref 40, .int (gi σ 40 x2.toNatClampNeg), .int q14, .ref 39], σ)) rfl ?_
          obtain ⟨h17, hf⟩ := grd hf
          refine go_iald rfl rfl rfl h17 ?_
          obtain ⟨q18, h19, hf⟩ := bnd hf
          refine go_c (mid := 3584) (args := [.int (gi σ 40 x2.toNatClampNeg), .int (gi σ 40 x3.toNatClampNeg)]) (pc := 132) (L := [some (.ref 39), some (.int x1), some (.int x2), some (.int x3)]) (st := [.int q14, .ref 39]) (σ := σ) rfl ((fJ5_max_ok _ _ _ q18 h19).deep (Nat.le_of_ble_eq_true rfl)) ?_
          obtain ⟨q20, h21, hf⟩ := bnd hf
          refine go_c (mid := 11780) (args := [.ref 39, .int q14, .int q18]) (pc := 135) (L := [some (.ref 39), some (.int x1), some (.int x2), some (.int x3)]) (st := []) (σ := σ) rfl ((fX6_merges_ok _ _ _ q20 h21).deep (Nat.le_of_ble_eq_true rfl)) ?_
          exact fX6_joins_J135_ok _ _ _ _ _ _ hrec34 hrec52 _ hf
def fX6_joins_L34 (x1 : Int32)  (rec34 : (Int32 × Sg) → Option Sg) (s : Int32 × Sg) : Option Sg :=
  match s with
  | (x2, σ) => if (gi σ 1 19) ≤ x2 then some σ else lp (fX6_joins_L52 x1 x2 rec34) N0 ((x2 + 1), σ)
set_option maxHeartbeats 1500000 in
theorem fX6_joins_L34_ok (x1 : Int32)   : ∀ (n : Nat) (x2 : Int32) (σ : Sg) (r : Sg), lp (fX6_joins_L34 x1 ) n (x2, σ) = some r → Go true 5 iX6_joins (34, [some (.ref 39), some (.int x1), some (.int x2), none], [], σ) (.inl none, r) := by
  intro n
  induction n with
  | zero => intro x2 σ r hf; cases hf
  | succ n ih =>
    intro x2 σ r hf
    have hf : fX6_joins_L34 x1  (lp (fX6_joins_L34 x1 ) n) (x2, σ) = some r := hf
    have hrec34 := ih
    generalize lp (fX6_joins_L34 x1 ) n = rec34 at hf hrec34
    unfold fX6_joins_L34 at hf
    dsimp only at hf
    refine go_n 5 (f := (45, [some (.ref 39), some (.int x1), some (.int x2), none], [.int (gi σ 1 19), .int x2], σ)) rfl ?_
    by_cases h4 : (gi σ 1 19) ≤ x2
    · rw [if_pos h4] at hf
      refine go_it (t := 147) (f := 48) (L1 := [some (.ref 39), some (.int x1), some (.int x2), none]) (st1 := []) (σ1 := σ) rfl h4 ?_
      cases hf
      exact go_r rfl
    · rw [if_neg h4] at hf
      refine go_if (t := 147) (f := 48) (L1 := [some (.ref 39), some (.int x1), some (.int x2), none]) (st1 := []) (σ1 := σ) rfl h4 ?_
      refine go_n 4 (f := (52, [some (.ref 39), some (.int x1), some (.int x2), some (.int (x2 + 1))], [], σ)) rfl ?_
      exact fX6_joins_L52_ok _ _ _ hrec34 N0 _ _ _ hf
def fX6_joins_L13 (x1 : Int32)  (rec13 : (Int32 × Sg) → Option Sg) (s : Int32 × Sg) : Option Sg :=
  match s with
  | (x2, σ) => if 16 ≤ x2 then lp (fX6_joins_L34 x1 ) N0 (0, σ) else if inb x2 16 then rec13 ((x2 + 1), (wi σ 40 x2.toNatClampNeg x2)) else none
set_option maxHeartbeats 1500000 in
theorem fX6_joins_L13_ok (x1 : Int32)   : ∀ (n : Nat) (x2 : Int32) (σ : Sg) (r : Sg), lp (fX6_joins_L13 x1 ) n (x2, σ) = some r → Go true 5 iX6_joins (13, [some (.ref 39), some (.int x1), some (.int x2), none], [], σ) (.inl none, r) := by
  intro n
  induction n with
  | zero => intro x2 σ r hf; cases hf
  | succ n ih =>
    intro x2 σ r hf
    have hf : fX6_joins_L13 x1  (lp (fX6_joins_L13 x1 ) n) (x2, σ) = some r := hf
    have hrec13 := ih
    generalize lp (fX6_joins_L13 x1 ) n = rec13 at hf hrec13
    unfold fX6_joins_L13 at hf
    dsimp only at hf
    refine go_n 2 (f := (16, [some (.ref 39), some (.int x1), some (.int x2), none], [.int 16, .int x2], σ)) rfl ?_
    by_cases h3 : 16 ≤ x2
    · rw [if_pos h3] at hf
      refine go_it (t := 32) (f := 19) (L1 := [some (.ref 39), some (.int x1), some (.int x2), none]) (st1 := []) (σ1 := σ) rfl h3 ?_
      refine go_n 2 (f := (34, [some (.ref 39), some (.int x1), some (.int 0), none], [], σ)) rfl ?_
      exact fX6_joins_L34_ok _   N0 _ _ _ hf
    · rw [if_neg h3] at hf
      refine go_if (t := 32) (f := 19) (L1 := [some (.ref 39), some (.int x1), some (.int x2), none]) (st1 := []) (σ1 := σ) rfl h3 ?_
      refine go_n 4 (f := (25, [some (.ref 39), some (.int x1), some (.int x2), none], [.int x2, .int x2, .ref 40], σ)) rfl ?_
      obtain ⟨h22, hf⟩ := grd hf
      refine go_iast rfl rfl rfl h22 ?_
      refine go_n 2 (f := (13, [some (.ref 39), some (.int x1), some (.int (x2 + 1)), none], [], (wi σ 40 x2.toNatClampNeg x2))) rfl ?_
      exact hrec13 _ _ _ hf
def fX6_joins (x1 : Int32) (σ : Sg) : Option Sg :=
  (fX2_looks x1 σ).bind fun q1 => lp (fX6_joins_L13 x1 ) N0 (0, q1)
set_option maxHeartbeats 1500000 in
theorem fX6_joins_ok (x1 : Int32) (σ : Sg) (r : Sg) (hf : fX6_joins x1 σ = some r) : Cl true 5 11778 [.ref 39, .int x1] σ (.inl none, r) := by
  refine ⟨iX6_joins, rfl, Nat.le_of_ble_eq_true rfl, Nat.le_of_ble_eq_true rfl, ?_⟩
  show Go true 5 iX6_joins (0, [some (.ref 39), some (.int x1), none, none], [], σ) (.inl none, r)
  unfold fX6_joins at hf
  refine go_n 4 (f := (8, [some (.ref 39), some (.int x1), none, none], [.int x1, .ref 28], σ)) rfl ?_
  obtain ⟨q1, h2, hf⟩ := bnd hf
  refine go_c (mid := 8193) (args := [.ref 28, .int x1]) (pc := 11) (L := [some (.ref 39), some (.int x1), none, none]) (st := []) (σ := σ) rfl ((fX2_looks_ok _ _ q1 h2).deep (Nat.le_of_ble_eq_true rfl)) ?_
  refine go_n 2 (f := (13, [some (.ref 39), some (.int x1), some (.int 0), none], [], q1)) rfl ?_
  exact fX6_joins_L13_ok _   N0 _ _ _ hf
/-! java/util/ArrayList.addAll(Ljava/util/Collection;)Z -/
def fJ2_addAll_J56 (x0 : Nat) (x2 : Nat) (x3 : Int32) (x4 : Nat) (x5 : Int32)  (σ : Sg) : Option (Int32 × Sg) :=
  (am_cpy true σ x2 0 x4 x5 x3).bind fun q15 => if [16].elem (kk q15 x0) = true then some (1, (wi q15 x0 2 (x5 + x3))) else none
set_option maxHeartbeats 1500000 in
theorem fJ2_addAll_J56_ok (x0 : Nat) (x2 : Nat) (x3 : Int32) (x4 : Nat) (x5 : Int32)  (σ : Sg)  (r : (Int32 × Sg)) (hf : fJ2_addAll_J56 x0 x2 x3 x4 x5  σ = some r) : Go true 3 iJ2_addAll (56, [some (.ref x0), none, some (.ref x2), some (.int x3), some (.ref x4), some (.int x5)], [], σ) (.inl (some (.int (r).1)), (r).2) := by
  unfold fJ2_addAll_J56 at hf
  refine go_n 5 (f := (63, [some (.ref x0), none, some (.ref x2), some (.int x3), some (.ref x4), some (.int x5)], [.int x3, .int x5, .ref x4, .int 0, .ref x2], σ)) rfl ?_
  obtain ⟨q15, h14, hf⟩ := bnd hf
  refine go_b (mid := 20001) (args := [.ref x2, .int 0, .ref x4, .int x5, .int x3]) (pc := 66) (L := [some (.ref x0), none, some (.ref x2), some (.int x3), some (.ref x4), some (.int x5)]) (st := []) (σ := σ) rfl (by decide) (am_bi_cpy h14) ?_
  refine go_n 4 (f := (71, [some (.ref x0), none, some (.ref x2), some (.int x3), some (.ref x4), some (.int x5)], [.int (x5 + x3), .ref x0], q15)) rfl ?_
  obtain ⟨h16, hf⟩ := grd hf
  refine go_puti rfl rfl rfl h16 rfl rfl rfl ?_
  refine go_n 1 (f := (75, [some (.ref x0), none, some (.ref x2), some (.int x3), some (.ref x4), some (.int x5)], [.int 1], (wi q15 x0 2 (x5 + x3)))) rfl ?_
  cases hf
  exact go_r rfl
def fJ2_addAll (x0 : Nat) (x1 : Nat) (σ : Sg) : Option (Int32 × Sg) :=
  if (kk σ x1) = 16 then (fJ2_toArray x1 σ).bind fun q2 => if [16].elem (kk q2.2 x0) = true then if [16].elem (kk q2.2 x0) = true then if 1 ≤ (kk q2.2 q2.1) ∧ (kk q2.2 q2.1) ≤ 6 then if (Int32.ofNat (kn q2.2 q2.1)) ≠ 0 then if [16].elem (kk q2.2 x0) = true then (match (rf q2.2 x0 1) with
  | some a8 => if 1 ≤ (kk q2.2 a8) ∧ (kk q2.2 a8) ≤ 6 then if [16].elem (kk q2.2 x0) = true then if (Int32.ofNat (kn q2.2 q2.1)) ≤ ((Int32.ofNat (kn q2.2 a8)) - (gi q2.2 x0 2)) then fJ2_addAll_J56 x0 q2.1 (Int32.ofNat (kn q2.2 q2.1)) a8 (gi q2.2 x0 2)  (wi q2.2 x0 0 ((gi q2.2 x0 0) + 1)) else if (kk q2.2 x0) = 16 then (fJ2_grow x0 ((gi q2.2 x0 2) + (Int32.ofNat (kn q2.2 q2.1))) (wi q2.2 x0 0 ((gi q2.2 x0 0) + 1))).bind fun q18 => fJ2_addAll_J56 x0 q2.1 (Int32.ofNat (kn q2.2 q2.1)) q18.1 (gi q2.2 x0 2)  q18.2 else none else none else none
  | none => none) else none else some (0, (wi q2.2 x0 0 ((gi q2.2 x0 0) + 1))) else none else none else none else none
set_option maxHeartbeats 1500000 in
theorem fJ2_addAll_ok (x0 : Nat) (x1 : Nat) (σ : Sg) (r : (Int32 × Sg)) (hf : fJ2_addAll x0 x1 σ = some r) : Cl true 3 2818 [.ref x0, .ref x1] σ (.inl (some (.int (r).1)), (r).2) := by
  refine ⟨iJ2_addAll, rfl, Nat.le_of_ble_eq_true rfl, Nat.le_of_ble_eq_true rfl, ?_⟩
  show Go true 3 iJ2_addAll (0, [some (.ref x0), some (.ref x1), none, none, none, none], [], σ) (.inl (some (.int (r).1)), (r).2)
  unfold fJ2_addAll at hf
  refine go_n 1 (f := (1, [some (.ref x0), some (.ref x1), none, none, none, none], [.ref x1], σ)) rfl ?_
  obtain ⟨h1, hf⟩ := grd hf
  obtain ⟨q2, h3, hf⟩ := bnd hf
  refine go_c (mid := 2819) (args := [.ref x1]) (pc := 6) (L := [some (.ref x0), some (.ref x1), none, none, none, none]) (st := []) (σ := σ) (stp_callF1 (n := 1) rfl rfl rfl ⟨Nat.le_of_ble_eq_true rfl, Nat.le_of_ble_eq_true rfl⟩ rfl h1 rfl) ((fJ2_toArray_ok _ _ q2 h3).deep (Nat.le_of_ble_eq_true rfl)) ?_
  refine go_n 3 (f := (9, [some (.ref x0), some (.ref x1), some (.ref q2.1), none, none, none], [.ref x0, .ref x0], q2.2)) rfl ?_
  obtain ⟨h4, hf⟩ := grd hf
  refine go_get rfl rfl rfl h4 ?_
  refine go_n 2 (f := (14, [some (.ref x0), some (.ref x1), some (.ref q2.1), none, none, none], [.int ((gi q2.2 x0 0) + 1), .ref x0], q2.2)) rfl ?_
  obtain ⟨h5, hf⟩ := grd hf
  refine go_puti rfl rfl rfl h5 rfl rfl rfl ?_
  refine go_n 1 (f := (18, [some (.ref x0), some (.ref x1), some (.ref q2.1), none, none, none], [.ref q2.1], (wi q2.2 x0 0 ((gi q2.2 x0 0) + 1)))) rfl ?_
  obtain ⟨h6, hf⟩ := grd hf
  refine go_alen rfl rfl h6 ?_
  refine go_n 2 (f := (21, [some (.ref x0), some (.ref x1), some (.ref q2.1), some (.int (Int32.ofNat (kn q2.2 q2.1))), none, none], [.int (Int32.ofNat (kn q2.2 q2.1))], (wi q2.2 x0 0 ((gi q2.2 x0 0) + 1)))) rfl ?_
  by_cases h7 : (Int32.ofNat (kn q2.2 q2.1)) ≠ 0
  · rw [if_pos h7] at hf
    refine go_it (t := 26) (f := 24) (L1 := [some (.ref x0), some (.ref x1), some (.ref q2.1), some (.int (Int32.ofNat (kn q2.2 q2.1))), none, none]) (st1 := []) (σ1 := (wi q2.2 x0 0 ((gi q2.2 x0 0) + 1))) rfl h7 ?_
    refine go_n 2 (f := (28, [some (.ref x0), some (.ref x1), some (.ref q2.1), some (.int (Int32.ofNat (kn q2.2 q2.1))), none, none], [.ref x0, .int (Int32.ofNat (kn q2.2 q2.1))], (wi q2.2 x0 0 ((gi q2.2 x0 0) + 1)))) rfl ?_
    obtain ⟨h9, hf⟩ := grd hf
    refine go_get rfl rfl rfl h9 ?_
    rw [show am_rf true (wi q2.2 x0 0 ((gi q2.2 x0 0) + 1)) x0 1 2 = va_rf (rf q2.2 x0 1) from by simp [am_rf, rf, grT, gr, wr, wi, wl]]
    show Go true 3 iJ2_addAll (31, [some (.ref x0), some (.ref x1), some (.ref q2.1), some (.int (Int32.ofNat (kn q2.2 q2.1))), none, none], va_rf (rf q2.2 x0 1) :: [.int (Int32.ofNat (kn q2.2 q2.1))], (wi q2.2 x0 0 ((gi q2.2 x0 0) + 1))) _
    generalize hR10 : (rf q2.2 x0 1) = h20 at hf ⊢
    cases h20 with
    | none =>
      cases hf
    | some a8 =>
      refine go_n 2 (f := (34, [some (.ref x0), some (.ref x1), some (.ref q2.1), some (.int (Int32.ofNat (kn q2.2 q2.1))), some (.ref a8), none], [.ref a8, .int (Int32.ofNat (kn q2.2 q2.1))], (wi q2.2 x0 0 ((gi q2.2 x0 0) + 1)))) rfl ?_
      obtain ⟨h11, hf⟩ := grd hf
      refine go_alen rfl rfl h11 ?_
      refine go_n 1 (f := (36, [some (.ref x0), some (.ref x1), some (.ref q2.1), some (.int (Int32.ofNat (kn q2.2 q2.1))), some (.ref a8), none], [.ref x0, .int (Int32.ofNat (kn q2.2 a8)), .int (Int32.ofNat (kn q2.2 q2.1))], (wi q2.2 x0 0 ((gi q2.2 x0 0) + 1)))) rfl ?_
      obtain ⟨h12, hf⟩ := grd hf
      refine go_get rfl rfl rfl h12 ?_
      rw [show am_rf true (wi q2.2 x0 0 ((gi q2.2 x0 0) + 1)) x0 2 0 = .int (gi q2.2 x0 2) from by simp [am_rf, gi, gl, wi, wl, wr]]
      refine go_n 3 (f := (43, [some (.ref x0), some (.ref x1), some (.ref q2.1), some (.int (Int32.ofNat (kn q2.2 q2.1))), some (.ref a8), some (.int (gi q2.2 x0 2))], [.int ((Int32.ofNat (kn q2.2 a8)) - (gi q2.2 x0 2)), .int (Int32.ofNat (kn q2.2 q2.1))], (wi q2.2 x0 0 ((gi q2.2 x0 0) + 1)))) rfl ?_
      by_cases h13 : (Int32.ofNat (kn q2.2 q2.1)) ≤ ((Int32.ofNat (kn q2.2 a8)) - (gi q2.2 x0 2))
      · rw [if_pos h13] at hf
        refine go_it (t := 56) (f := 46) (L1 := [some (.ref x0), some (.ref x1), some (.ref q2.1), some (.int (Int32.ofNat (kn q2.2 q2.1))), some (.ref a8), some (.int (gi q2.2 x0 2))]) (st1 := []) (σ1 := (wi q2.2 x0 0 ((gi q2.2 x0 0) + 1))) rfl h13 ?_
        refine go_e (L1 := [some (.ref x0), none, some (.ref q2.1), some (.int (Int32.ofNat (kn q2.2 q2.1))), some (.ref a8), some (.int (gi q2.2 x0 2))]) rfl rfl ?_
        exact fJ2_addAll_J56_ok _ _ _ _ _  _  _ hf
      · rw [if_neg h13] at hf
        refine go_if (t := 56) (f := 46) (L1 := [some (.ref x0), some (.ref x1), some (.ref q2.1), some (.int (Int32.ofNat (kn q2.2 q2.1))), some (.ref a8), some (.int (gi q2.2 x0 2))]) (st1 := []) (σ1 := (wi q2.2 x0 0 ((gi q2.2 x0 0) + 1))) rfl h13 ?_
        refine go_n 4 (f := (51, [some (.ref x0), some (.ref x1), some (.ref q2.1), some (.int (Int32.ofNat (kn q2.2 q2.1))), some (.ref a8), some (.int (gi q2.2 x0 2))], [.int ((gi q2.2 x0 2) + (Int32.ofNat (kn q2.2 q2.1))), .ref x0], (wi q2.2 x0 0 ((gi q2.2 x0 0) + 1)))) rfl ?_
        obtain ⟨h17, hf⟩ := grd hf
        obtain ⟨q18, h19, hf⟩ := bnd hf
        refine go_c (mid := 2820) (args := [.ref x0, .int ((gi q2.2 x0 2) + (Int32.ofNat (kn q2.2 q2.1)))]) (pc := 54) (L := [some (.ref x0), some (.ref x1), some (.ref q2.1), some (.int (Int32.ofNat (kn q2.2 q2.1))), some (.ref a8), some (.int (gi q2.2 x0 2))]) (st := []) (σ := (wi q2.2 x0 0 ((gi q2.2 x0 0) + 1))) (stp_callV1 (n := 2) rfl rfl rfl ⟨Nat.le_of_ble_eq_true rfl, Nat.le_of_ble_eq_true rfl⟩ rfl h17 rfl) ((fJ2_grow_ok _ _ _ q18 h19).deep (Nat.le_of_ble_eq_true rfl)) ?_
        refine go_n 1 (f := (56, [some (.ref x0), some (.ref x1), some (.ref q2.1), some (.int (Int32.ofNat (kn q2.2 q2.1))), some (.ref q18.1), some (.int (gi q2.2 x0 2))], [], q18.2)) rfl ?_
        refine go_e (L1 := [some (.ref x0), none, some (.ref q2.1), some (.int (Int32.ofNat (kn q2.2 q2.1))), some (.ref q18.1), some (.int (gi q2.2 x0 2))]) rfl rfl ?_
        exact fJ2_addAll_J56_ok _ _ _ _ _  _  _ hf
  · rw [if_neg h7] at hf
    refine go_if (t := 26) (f := 24) (L1 := [some (.ref x0), some (.ref x1), some (.ref q2.1), some (.int (Int32.ofNat (kn q2.2 q2.1))), none, none]) (st1 := []) (σ1 := (wi q2.2 x0 0 ((gi q2.2 x0 0) + 1))) rfl h7 ?_
    refine go_n 1 (f := (25, [some (.ref x0), some (.ref x1), some (.ref q2.1), some (.int (Int32.ofNat (kn q2.2 q2.1))), none, none], [.int 0], (wi q2.2 x0 0 ((gi q2.2 x0 0) + 1)))) rfl ?_
    cases hf
    exact go_r rfl
/-! java/util/ArrayList.add(Ljava/lang/Object;[Ljava/lang/Object;I)V -/
def fJ2_add_2_J11 (x0 : Nat) (x1 : Nat) (x2 : Nat) (x3 : Int32)  (σ : Sg) : Option Sg :=
  if (kk σ x2) = 5 ∧ 10 ≤ (kk σ x1) ∨ (kk σ x2) = 6 ∧ (kk σ x1) = 11 then if inb x3 (kn σ x2) then if [16].elem (kk σ x0) = true then some (wi (wr σ x2 x3.toNatClampNeg (some x1)) x0 2 (x3 + 1)) else none else none else none
set_option maxHeartbeats 1500000 in
theorem fJ2_add_2_J11_ok (x0 : Nat) (x1 : Nat) (x2 : Nat) (x3 : Int32)  (σ : Sg)  (r : Sg) (hf : fJ2_add_2_J11 x0 x1 x2 x3  σ = some r) : Go true 4 iJ2_add_2 (11, [some (.ref x0), some (.ref x1), some (.ref x2), some (.int x3)], [], σ) (.inl none, r) := by
  unfold fJ2_add_2_J11 at hf
  refine go_n 3 (f := (14, [some (.ref x0), some (.ref x1), some (.ref x2), some (.int x3)], [.ref x1, .int x3, .ref x2], σ)) rfl ?_
  obtain ⟨h4, hf⟩ := grd hf
  obtain ⟨h3, hf⟩ := grd hf
  refine go_aast rfl rfl h4 h3 ?_
  refine go_n 4 (f := (19, [some (.ref x0), some (.ref x1), some (.ref x2), some (.int x3)], [.int (x3 + 1), .ref x0], (wr σ x2 x3.toNatClampNeg (some x1)))) rfl ?_
  obtain ⟨h5, hf⟩ := grd hf
  refine go_puti rfl rfl rfl h5 rfl rfl rfl ?_
  cases hf
  exact go_r rfl
def fJ2_add_2 (x0 : Nat) (x1 : Nat) (x2 : Nat) (x3 : Int32) (σ : Sg) : Option Sg :=
  if 1 ≤ (kk σ x2) ∧ (kk σ x2) ≤ 6 then if x3 ≠ (Int32.ofNat (kn σ x2)) then fJ2_add_2_J11 x0 x1 x2 x3  σ else if (kk σ x0) = 16 then (fJ2_grow_2 x0 σ).bind fun q7 => fJ2_add_2_J11 x0 x1 q7.1 x3  q7.2 else none else none
set_option maxHeartbeats 1500000 in
theorem fJ2_add_2_ok (x0 : Nat) (x1 : Nat) (x2 : Nat) (x3 : Int32) (σ : Sg) (r : Sg) (hf : fJ2_add_2 x0 x1 x2 x3 σ = some r) : Cl true 4 2823 [.ref x0, .ref x1, .ref x2, .int x3] σ (.inl none, r) := by
  refine ⟨iJ2_add_2, rfl, Nat.le_of_ble_eq_true rfl, Nat.le_of_ble_eq_true rfl, ?_⟩
  show Go true 4 iJ2_add_2 (0, [some (.ref x0), some (.ref x1), some (.ref x2), some (.int x3)], [], σ) (.inl none, r)
  unfold fJ2_add_2 at hf
  refine go_n 2 (f := (2, [some (.ref x0), some (.ref x1), some (.ref x2), some (.int x3)], [.ref x2, .int x3], σ)) rfl ?_
  obtain ⟨h1, hf⟩ := grd hf
  refine go_alen rfl rfl h1 ?_
  by_cases h2 : x3 ≠ (Int32.ofNat (kn σ x2))
  · rw [if_pos h2] at hf
    refine go_it (t := 11) (f := 6) (L1 := [some (.ref x0), some (.ref x1), some (.ref x2), some (.int x3)]) (st1 := []) (σ1 := σ) rfl h2 ?_
    exact fJ2_add_2_J11_ok _ _ _ _  _  _ hf
  · rw [if_neg h2] at hf
    refine go_if (t := 11) (f := 6) (L1 := [some (.ref x0), some (.ref x1), some (.ref x2), some (.int x3)]) (st1 := []) (σ1 := σ) rfl h2 ?_
    refine go_n 1 (f := (7, [some (.ref x0), some (.ref x1), some (.ref x2), some (.int x3)], [.ref x0], σ)) rfl ?_
    obtain ⟨h6, hf⟩ := grd hf
    obtain ⟨q7, h8, hf⟩ := bnd hf
    refine go_c (mid := 2824) (args := [.ref x0]) (pc := 10) (L := [some (.ref x0), some (.ref x1), some (.ref x2), some (.int x3)]) (st := []) (σ := σ) (stp_callV1 (n := 1) rfl rfl rfl ⟨Nat.le_of_ble_eq_true rfl, Nat.le_of_ble_eq_true rfl⟩ rfl h6 rfl) ((fJ2_grow_2_ok _ _ q7 h8).deep (Nat.le_of_ble_eq_true rfl)) ?_
    refine go_n 1 (f := (11, [some (.ref x0), some (.ref x1), some (.ref q7.1), some (.int x3)], [], q7.2)) rfl ?_
    exact fJ2_add_2_J11_ok _ _ _ _  _  _ hf
/-! OldWeather.day(IIII)I -/
def fX0_day (x1 : Int32) (x2 : Int32) (x3 : Int32) (x4 : Int32) : Option Int32 :=
  (fX0_in x4 0 1).bind fun q1 => if q1 = 0 then some (-1) else (fX0_isDate x1 x2 x3 x4).bind fun q4 => if q4 ≠ 0 then (fX0_dayAt x1 x2 x3 x4).bind fun q7 => (fX0_isDay q7).bind fun q9 => ((fun (z12 : Int32) => some z12) (if q9 = 0 then (-1) else q7)) else some (-1)
set_option maxHeartbeats 1500000 in
theorem fX0_day_ok (x1 : Int32) (x2 : Int32) (x3 : Int32) (x4 : Int32) (σ : Sg) (r : Int32) (hf : fX0_day x1 x2 x3 x4 = some r) : Cl true 3 5121 [.ref 0, .int x1, .int x2, .int x3, .int x4] σ (.inl (some (.int r)), σ) := by
  refine ⟨iX0_day, rfl, Nat.le_of_ble_eq_true rfl, Nat.le_of_ble_eq_true rfl, ?_⟩
  show Go true 3 iX0_day (0, [some (.ref 0), some (.int x1), some (.int x2), some (.int x3), some (.int x4), none], [], σ) (.inl (some (.int r)), σ)
  unfold fX0_day at hf
  refine go_n 3 (f := (4, [some (.ref 0), some (.int x1), some (.int x2), some (.int x3), some (.int x4), none], [.int 1, .int 0, .int x4], σ)) rfl ?_
  obtain ⟨q1, h2, hf⟩ := bnd hf
  refine go_c (mid := 5122) (args := [.int x4, .int 0, .int 1]) (pc := 7) (L := [some (.ref 0), some (.int x1), some (.int x2), some (.int x3), some (.int x4), none]) (st := []) (σ := σ) rfl ((fX0_in_ok _ _ _ _ q1 h2).deep (Nat.le_of_ble_eq_true rfl)) ?_
  by_cases h3 : q1 = 0
  · rw [if_pos h3] at hf
    refine go_it (t := 21) (f := 10) (L1 := [some (.ref 0), some (.int x1), some (.int x2), some (.int x3), some (.int x4), none]) (st1 := []) (σ1 := σ) rfl h3 ?_
    refine go_e (L1 := [none, none, none, none, none, none]) rfl rfl ?_
    refine go_n 1 (f := (22, [none, none, none, none, none, none], [.int (-1)], σ)) rfl ?_
    cases hf
    exact go_r rfl
  · rw [if_neg h3] at hf
    refine go_if (t := 21) (f := 10) (L1 := [some (.ref 0), some (.int x1), some (.int x2), some (.int x3), some (.int x4), none]) (st1 := []) (σ1 := σ) rfl h3 ?_
    refine go_n 4 (f := (15, [some (.ref 0), some (.int x1), some (.int x2), some (.int x3), some (.int x4), none], [.int x4, .int x3, .int x2, .int x1], σ)) rfl ?_
    obtain ⟨q4, h5, hf⟩ := bnd hf
    refine go_c (mid := 5123) (args := [.int x1, .int x2, .int x3, .int x4]) (pc := 18) (L := [some (.ref 0), some (.int x1), some (.int x2), some (.int x3), some (.int x4), none]) (st := []) (σ := σ) rfl ((fX0_isDate_ok _ _ _ _ _ q4 h5).deep (Nat.le_of_ble_eq_true rfl)) ?_
    by_cases h6 : q4 ≠ 0
    · rw [if_pos h6] at hf
      refine go_it (t := 23) (f := 21) (L1 := [some (.ref 0), some (.int x1), some (.int x2), some (.int x3), some (.int x4), none]) (st1 := []) (σ1 := σ) rfl h6 ?_
      refine go_n 4 (f := (28, [some (.ref 0), some (.int x1), some (.int x2), some (.int x3), some (.int x4), none], [.int x4, .int x3, .int x2, .int x1], σ)) rfl ?_
      obtain ⟨q7, h8, hf⟩ := bnd hf
      refine go_c (mid := 5126) (args := [.int x1, .int x2, .int x3, .int x4]) (pc := 31) (L := [some (.ref 0), some (.int x1), some (.int x2), some (.int x3), some (.int x4), none]) (st := []) (σ := σ) rfl ((fX0_dayAt_ok _ _ _ _ _ q7 h8).deep (Nat.le_of_ble_eq_true rfl)) ?_
      refine go_n 2 (f := (35, [some (.ref 0), some (.int x1), some (.int x2), some (.int x3), some (.int x4), some (.int q7)], [.int q7], σ)) rfl ?_
      obtain ⟨q9, h10, hf⟩ := bnd hf
      refine go_c (mid := 5128) (args := [.int q7]) (pc := 38) (L := [some (.ref 0), some (.int x1), some (.int x2), some (.int x3), some (.int x4), some (.int q7)]) (st := []) (σ := σ) rfl ((fX0_isDay_ok _ _ q9 h10).deep (Nat.le_of_ble_eq_true rfl)) ?_
      refine go_m (f := (47, [none, none, none, none, none, none], [.int (if q9 = 0 then (-1) else q7)], σ)) ?_ (fun hJ13 => ?_)
      · generalize hz12 : (if q9 = 0 then (-1) else q7) = z12 at hf ⊢
        try dsimp only at hf
        cases hf
        exact go_r rfl
      · by_cases h11 : q9 = 0
        · refine go_it (t := 46) (f := 41) (L1 := [some (.ref 0), some (.int x1), some (.int x2), some (.int x3), some (.int x4), some (.int q7)]) (st1 := []) (σ1 := σ) rfl h11 ?_
          refine go_n 1 (f := (47, [some (.ref 0), some (.int x1), some (.int x2), some (.int x3), some (.int x4), some (.int q7)], [.int (-1)], σ)) rfl ?_
          refine go_e (L1 := [none, none, none, none, none, none]) rfl rfl ?_
          simp only [if_pos h11] at hJ13
          first | exact hJ13 | (simp only [if_pos h11]; exact hJ13)
        · refine go_if (t := 46) (f := 41) (L1 := [some (.ref 0), some (.int x1), some (.int x2), some (.int x3), some (.int x4), some (.int q7)]) (st1 := []) (σ1 := σ) rfl h11 ?_
          refine go_n 2 (f := (47, [some (.ref 0), some (.int x1), some (.int x2), some (.int x3), some (.int x4), some (.int q7)], [.int q7], σ)) rfl ?_
          refine go_e (L1 := [none, none, none, none, none, none]) rfl rfl ?_
          simp only [if_neg h11] at hJ13
          first | exact hJ13 | (simp only [if_neg h11]; exact hJ13)
    · rw [if_neg h6] at hf
      refine go_if (t := 23) (f := 21) (L1 := [some (.ref 0), some (.int x1), some (.int x2), some (.int x3), some (.int x4), none]) (st1 := []) (σ1 := σ) rfl h6 ?_
      refine go_e (L1 := [none, none, none, none, none, none]) rfl rfl ?_
      refine go_n 1 (f := (22, [none, none, none, none, none, none], [.int (-1)], σ)) rfl ?_
      cases hf
      exact go_r rfl
/-! OldWeather.of(II)I -/
def fX0_of (x1 : Int32) (x2 : Int32) (σ : Sg) : Option (Int32 × Sg) :=
  (fX0_isReading x1 σ).bind fun q1 => if q1 ≠ 0 then (fX0_dates  σ).bind fun q4 => if x2 = 0 then (fJ2_get 2 x1 q4).bind fun q7 => if [17, 18, 19, 20, 21].elem (kk q4 q7) = true then (am_kdo (kk q4 q7)).bind fun q11 => some (q11, q4) else none else if x2 = 1 then (fJ2_get 2 x1 q4).bind fun q13 => if [17, 18, 19, 20, 21].elem (kk q4 q13) = true then if [17, 18, 19, 20, 21].elem (kk q4 q13) = true then some ((gi q4 q13 1), q4) else none else none else if x2 = 2 then if inb x1 200 then some ((gi q4 18 x1.toNatClampNeg), q4) else none else if x2 = 3 then if inb x1 200 then ((fun (z22 : Int32) => if inb x1 200 then ((fun (z25 : Int32) => some ((z22 + z25), q4)) ((if (gi q4 26 x1.toNatClampNeg) ≠ (-1) then 1 else 0) : Int32)) else none) ((if (gi q4 25 x1.toNatClampNeg) ≠ (-1) then 1 else 0) : Int32)) else none else if x2 = 4 then if inb x1 200 then if (gi q4 25 x1.toNatClampNeg) ≠ (-1) then if inb x1 200 then some ((gi q4 25 x1.toNatClampNeg), q4) else none else some ((-100000), q4) else none else if x2 = 5 then if inb x1 200 then if (gi q4 26 x1.toNatClampNeg) ≠ (-1) then if inb x1 200 then some ((gi q4 26 x1.toNatClampNeg), q4) else none else some ((-100000), q4) else none else some ((-100000), q4) else some ((-100000), σ)
set_option maxHeartbeats 1500000 in
theorem fX0_of_ok (x1 : Int32) (x2 : Int32) (σ : Sg) (r : (Int32 × Sg)) (hf : fX0_of x1 x2 σ = some r) : Cl true 4 5158 [.ref 0, .int x1, .int x2] σ (.inl (some (.int (r).1)), (r).2) := by
  refine ⟨iX0_of, rfl, Nat.le_of_ble_eq_true rfl, Nat.le_of_ble_eq_true rfl, ?_⟩
  show Go true 4 iX0_of (0, [some (.ref 0), some (.int x1), some (.int x2)], [], σ) (.inl (some (.int (r).1)), (r).2)
  unfold fX0_of at hf
  refine go_n 2 (f := (2, [some (.ref 0), some (.int x1), some (.int x2)], [.int x1, .ref 0], σ)) rfl ?_
  obtain ⟨q1, h2, hf⟩ := bnd hf
  refine go_c (mid := 5153) (args := [.ref 0, .int x1]) (pc := 5) (L := [some (.ref 0), some (.int x1), some (.int x2)]) (st := []) (σ := σ) rfl ((fX0_isReading_ok _ _ q1 h2).deep (Nat.le_of_ble_eq_true rfl)) ?_
  by_cases h3 : q1 ≠ 0
  · rw [if_pos h3] at hf
    refine go_it (t := 12) (f := 8) (L1 := [some (.ref 0), some (.int x1), some (.int x2)]) (st1 := []) (σ1 := σ) rfl h3 ?_
    refine go_n 1 (f := (13, [some (.ref 0), some (.int x1), some (.int x2)], [.ref 0], σ)) rfl ?_
    obtain ⟨q4, h5, hf⟩ := bnd hf
    refine go_c (mid := 5159) (args := [.ref 0]) (pc := 16) (L := [some (.ref 0), some (.int x1), some (.int x2)]) (st := []) (σ := σ) rfl ((fX0_dates_ok _ q4 h5).deep (Nat.le_of_ble_eq_true rfl)) ?_
    refine go_n 1 (f := (17, [some (.ref 0), some (.int x1), some (.int x2)], [.int x2], q4)) rfl ?_
    by_cases h6 : x2 = 0
    · rw [if_pos h6] at hf
      refine go_tsw (t := 56) rfl rfl (by rw [h6]; rfl) ?_
      refine go_n 4 (f := (64, [some (.ref 0), some (.int x1), some (.int x2)], [.int x1, .ref 2], q4)) rfl ?_
      obtain ⟨q7, h8, hf⟩ := bnd hf
      refine go_c (mid := 2825) (args := [.ref 2, .int x1]) (pc := 67) (L := [some (.ref 0), some (.int x1), some (.int x2)]) (st := []) (σ := q4) rfl ((fJ2_get_ok _ _ _ q7 h8).deep (Nat.le_of_ble_eq_true rfl)) ?_
      obtain ⟨h9, hf⟩ := grd hf
      refine go_cast rfl rfl rfl h9 ?_
      obtain ⟨q11, h10, hf⟩ := bnd hf
      refine go_b (mid := 20007) (args := [.ref q7]) (pc := 73) (L := [some (.ref 0), some (.int x1), some (.int x2)]) (st := []) (σ := q4) rfl (by decide) (am_bi_kdo h10) ?_
      cases hf
      exact go_r rfl
    · rw [if_neg h6] at hf
      by_cases h12 : x2 = 1
      · rw [if_pos h12] at hf
        refine go_tsw (t := 74) rfl rfl (by rw [h12]; rfl) ?_
        refine go_n 4 (f := (82, [some (.ref 0), some (.int x1), some (.int x2)], [.int x1, .ref 2], q4)) rfl ?_
        obtain ⟨q13, h14, hf⟩ := bnd hf
        refine go_c (mid := 2825) (args := [.ref 2, .int x1]) (pc := 85) (L := [some (.ref 0), some (.int x1), some (.int x2)]) (st := []) (σ := q4) rfl ((fJ2_get_ok _ _ _ q13 h14).deep (Nat.le_of_ble_eq_true rfl)) ?_
        obtain ⟨h15, hf⟩ := grd hf
        refine go_cast rfl rfl rfl h15 ?_
        obtain ⟨h16, hf⟩ := grd hf
        refine go_get rfl rfl rfl h16 ?_
        cases hf
        exact go_r rfl
      · rw [if_neg h12] at hf
        by_cases h17 : x2 = 2
        · rw [if_pos h17] at hf
          refine go_tsw (t := 92) rfl rfl (by rw [h17]; rfl) ?_
          refine go_n 4 (f := (100, [some (.ref 0), some (.int x1), some (.int x2)], [.int x1, .ref 18], q4)) rfl ?_
          obtain ⟨h18, hf⟩ := grd hf
          refine go_iald rfl rfl rfl h18 ?_
          cases hf
          exact go_r rfl
        · rw [if_neg h17] at hf
          by_cases h19 : x2 = 3
          · rw [if_pos h19] at hf
            refine go_tsw (t := 102) rfl rfl (by rw [h19]; rfl) ?_
            refine go_n 3 (f := (107, [some (.ref 0), some (.int x1), some (.int x2)], [.int x1, .ref 25], q4)) rfl ?_
            obtain ⟨h20, hf⟩ := grd hf
            refine go_iald rfl rfl rfl h20 ?_
            refine go_n 1 (f := (109, [some (.ref 0), some (.int x1), some (.int x2)], [.int (-1), .int (gi q4 25 x1.toNatClampNeg)], q4)) rfl ?_
            refine go_m (f := (117, [some (.ref 0), some (.int x1), none], [.int ((if (gi q4 25 x1.toNatClampNeg) ≠ (-1) then 1 else 0) : Int32)], q4)) ?_ (fun hJ27 => ?_)
            · generalize hz22 : ((if (gi q4 25 x1.toNatClampNeg) ≠ (-1) then 1 else 0) : Int32) = z22 at hf ⊢
              have oz22 : am_ok 3 z22 = true := hz22 ▸ (okb rfl rfl)
              try dsimp only at hf
              refine go_n 3 (f := (122, [some (.ref 0), some (.int x1), none], [.int x1, .ref 26, .int z22], q4)) rfl ?_
              obtain ⟨h23, hf⟩ := grd hf
              refine go_iald rfl rfl rfl h23 ?_
              refine go_n 1 (f := (124, [some (.ref 0), some (.int x1), none], [.int (-1), .int (gi q4 26 x1.toNatClampNeg), .int z22], q4)) rfl ?_
              refine go_m (f := (132, [none, none, none], [.int ((if (gi q4 26 x1.toNatClampNeg) ≠ (-1) then 1 else 0) : Int32), .int z22], q4)) ?_ (fun hJ26 => ?_)
              · generalize hz25 : ((if (gi q4 26 x1.toNatClampNeg) ≠ (-1) then 1 else 0) : Int32) = z25 at hf ⊢
                have oz25 : am_ok 3 z25 = true := hz25 ▸ (okb rfl rfl)
                try dsimp only at hf
                refine go_n 1 (f := (133, [none, none, none], [.int (z22 + z25)], q4)) rfl ?_
                cases hf
                exact go_r rfl
              · by_cases h24 : (gi q4 26 x1.toNatClampNeg) ≠ (-1)
                · refine go_it (t := 131) (f := 127) (L1 := [some (.ref 0), some (.int x1), none]) (st1 := [.int z22]) (σ1 := q4) rfl h24 ?_
                  refine go_n 1 (f := (132, [some (.ref 0), some (.int x1), none], [.int 1, .int z22], q4)) rfl ?_
                  refine go_e (L1 := [none, none, none]) rfl rfl ?_
                  simp only [if_pos h24] at hJ26
                  first | exact hJ26 | (simp only [if_pos h24]; exact hJ26)
                · refine go_if (t := 131) (f := 127) (L1 := [some (.ref 0), some (.int x1), none]) (st1 := [.int z22]) (σ1 := q4) rfl h24 ?_
                  refine go_n 2 (f := (132, [some (.ref 0), some (.int x1), none], [.int 0, .int z22], q4)) rfl ?_
                  refine go_e (L1 := [none, none, none]) rfl rfl ?_
                  simp only [if_neg h24] at hJ26
                  first | exact hJ26 | (simp only [if_neg h24]; exact hJ26)
            · by_cases h21 : (gi q4 25 x1.toNatClampNeg) ≠ (-1)
              · refine go_it (t := 116) (f := 112) (L1 := [some (.ref 0), some (.int x1), some (.int x2)]) (st1 := []) (σ1 := q4) rfl h21 ?_
                refine go_n 1 (f := (117, [some (.ref 0), some (.int x1), some (.int x2)], [.int 1], q4)) rfl ?_
                refine go_e (L1 := [some (.ref 0), some (.int x1), none]) rfl rfl ?_
                simp only [if_pos h21] at hJ27
                first | exact hJ27 | (simp only [if_pos h21]; exact hJ27)
              · refine go_if (t := 116) (f := 112) (L1 := [some (.ref 0), some (.int x1), some (.int x2)]) (st1 := []) (σ1 := q4) rfl h21 ?_
                refine go_n 2 (f := (117, [some (.ref 0), some (.int x1), some (.int x2)], [.int 0], q4)) rfl ?_
                refine go_e (L1 := [some (.ref 0), some (.int x1), none]) rfl rfl ?_
                simp only [if_neg h21] at hJ27
                first | exact hJ27 | (simp only [if_neg h21]; exact hJ27)
          · rw [if_neg h19] at hf
            by_cases h28 : x2 = 4
            · rw [if_pos h28] at hf
              refine go_tsw (t := 134) rfl rfl (by rw [h28]; rfl) ?_
              refine go_n 3 (f := (139, [some (.ref 0), some (.int x1), some (.int x2)], [.int x1, .ref 25], q4)) rfl ?_
              obtain ⟨h29, hf⟩ := grd hf
              refine go_iald rfl rfl rfl h29 ?_
              refine go_n 1 (f := (141, [some (.ref 0), some (.int x1), some (.int x2)], [.int (-1), .int (gi q4 25 x1.toNatClampNeg)], q4)) rfl ?_
              by_cases h30 : (gi q4 25 x1.toNatClampNeg) ≠ (-1)
              · rw [if_pos h30] at hf
                refine go_it (t := 150) (f := 144) (L1 := [some (.ref 0), some (.int x1), some (.int x2)]) (st1 := []) (σ1 := q4) rfl h30 ?_
                refine go_n 3 (f := (155, [some (.ref 0), some (.int x1), some (.int x2)], [.int x1, .ref 25], q4)) rfl ?_
                obtain ⟨h31, hf⟩ := grd hf
                refine go_iald rfl rfl rfl h31 ?_
                refine go_e (L1 := [none, none, none]) rfl rfl ?_
                cases hf
                exact go_r rfl
              · rw [if_neg h30] at hf
                refine go_if (t := 150) (f := 144) (L1 := [some (.ref 0), some (.int x1), some (.int x2)]) (st1 := []) (σ1 := q4) rfl h30 ?_
                refine go_n 2 (f := (156, [some (.ref 0), some (.int x1), some (.int x2)], [.int (-100000)], q4)) rfl ?_
                refine go_e (L1 := [none, none, none]) rfl rfl ?_
                cases hf
                exact go_r rfl
            · rw [if_neg h28] at hf
              by_cases h32 : x2 = 5
              · rw [if_pos h32] at hf
                refine go_tsw (t := 157) rfl rfl (by rw [h32]; rfl) ?_
                refine go_n 3 (f := (162, [some (.ref 0), some (.int x1), some (.int x2)], [.int x1, .ref 26], q4)) rfl ?_
                obtain ⟨h33, hf⟩ := grd hf
                refine go_iald rfl rfl rfl h33 ?_
                refine go_n 1 (f := (164, [some (.ref 0), some (.int x1), some (.int x2)], [.int (-1), .int (gi q4 26 x1.toNatClampNeg)], q4)) rfl ?_
                by_cases h34 : (gi q4 26 x1.toNatClampNeg) ≠ (-1)
                · rw [if_pos h34] at hf
                  refine go_it (t := 173) (f := 167) (L1 := [some (.ref 0), some (.int x1), some (.int x2)]) (st1 := []) (σ1 := q4) rfl h34 ?_
                  refine go_n 3 (f := (178, [some (.ref 0), some (.int x1), some (.int x2)], [.int x1, .ref 26], q4)) rfl ?_
                  obtain ⟨h35, hf⟩ := grd hf
                  refine go_iald rfl rfl rfl h35 ?_
                  refine go_e (L1 := [none, none, none]) rfl rfl ?_
                  cases hf
                  exact go_r rfl
                · rw [if_neg h34] at hf
                  refine go_if (t := 173) (f := 167) (L1 := [some (.ref 0), some (.int x1), some (.int x2)]) (st1 := []) (σ1 := q4) rfl h34 ?_
                  refine go_n 2 (f := (179, [some (.ref 0), some (.int x1), some (.int x2)], [.int (-100000)], q4)) rfl ?_
                  refine go_e (L1 := [none, none, none]) rfl rfl ?_
                  cases hf
                  exact go_r rfl
              · rw [if_neg h32] at hf
                have htt : am_ts 17 163 0 5 #[39, 57, 75, 85, 117, 140] x2 = some 180 := by
                  have hts : x2.toInt < 0 ∨ 5 < x2.toInt := by
                    have h6t : x2.toInt ≠ 0 := tsn h6
                    have h12t : x2.toInt ≠ 1 := tsn h12
                    have h17t : x2.toInt ≠ 2 := tsn h17
                    have h19t : x2.toInt ≠ 3 := tsn h19
                    have h28t : x2.toInt ≠ 4 := tsn h28
                    have h32t : x2.toInt ≠ 5 := tsn h32
                    omega
                  unfold am_ts; rw [if_pos hts]; rfl
                refine go_tsw (t := 180) rfl rfl htt ?_
                refine go_n 1 (f := (183, [some (.ref 0), some (.int x1), some (.int x2)], [.int (-100000)], q4)) rfl ?_
                cases hf
                exact go_r rfl
  · rw [if_neg h3] at hf
    refine go_if (t := 12) (f := 8) (L1 := [some (.ref 0), some (.int x1), some (.int x2)]) (st1 := []) (σ1 := σ) rfl h3 ?_
    refine go_n 1 (f := (11, [some (.ref 0), some (.int x1), some (.int x2)], [.int (-100000)], σ)) rfl ?_
    cases hf
    exact go_r rfl
/-! OldWeather.force(III)I -/
def fX0_force (x1 : Int32) (x2 : Int32) (x3 : Int32) (σ : Sg) : Option (Int32 × Sg) :=
  (fJ2_size 4 σ).bind fun q1 => (fX0_in x1 0 (q1 - 1)).bind fun q3 => if q3 = 0 then some ((-1), σ) else (fJ2_get 4 x1 σ).bind fun q6 => if [34].elem (kk σ q6) = true then if [34].elem (kk σ q6) = true then (match (rf σ q6 2) with
  | some a9 => if (kk σ a9) = 16 then (fJ2_size a9 σ).bind fun q13 => (fX0_in x2 0 (q13 - 1)).bind fun q15 => if q15 = 0 then some ((-1), σ) else (fX0_isDesk x3).bind fun q18 => if q18 ≠ 0 then (fX2_looks x3 σ).bind fun q21 => if inb ((12 * x1) + x2) 240 then ((fun (z25 : Int32) => some (z25, q21)) ((if (gi q21 29 ((12 * x1) + x2).toNatClampNeg) = 0 then 0 else 1) : Int32)) else none else some ((-1), σ) else none
  | none => none) else none else none
set_option maxHeartbeats 1500000 in
theorem fX0_force_ok (x1 : Int32) (x2 : Int32) (x3 : Int32) (σ : Sg) (r : (Int32 × Sg)) (hf : fX0_force x1 x2 x3 σ = some r) : Cl true 5 5166 [.ref 0, .int x1, .int x2, .int x3] σ (.inl (some (.int (r).1)), (r).2) := by
  refine ⟨iX0_force, rfl, Nat.le_of_ble_eq_true rfl, Nat.le_of_ble_eq_true rfl, ?_⟩
  show Go true 5 iX0_force (0, [some (.ref 0), some (.int x1), some (.int x2), some (.int x3)], [], σ) (.inl (some (.int (r).1)), (r).2)
  unfold fX0_force at hf
  refine go_n 5 (f := (9, [some (.ref 0), some (.int x1), some (.int x2), some (.int x3)], [.ref 4, .int 0, .int x1], σ)) rfl ?_
  obtain ⟨q1, h2, hf⟩ := bnd hf
  refine go_c (mid := 2821) (args := [.ref 4]) (pc := 12) (L := [some (.ref 0), some (.int x1), some (.int x2), some (.int x3)]) (st := [.int 0, .int x1]) (σ := σ) rfl ((fJ2_size_ok _ _ q1 h2).deep (Nat.le_of_ble_eq_true rfl)) ?_
  refine go_n 2 (f := (14, [some (.ref 0), some (.int x1), some (.int x2), some (.int x3)], [.int (q1 - 1), .int 0, .int x1], σ)) rfl ?_
  obtain ⟨q3, h4, hf⟩ := bnd hf
  refine go_c (mid := 5122) (args := [.int x1, .int 0, .int (q1 - 1)]) (pc := 17) (L := [some (.ref 0), some (.int x1), some (.int x2), some (.int x3)]) (st := []) (σ := σ) rfl ((fX0_in_ok _ _ _ _ q3 h4).deep (Nat.le_of_ble_eq_true rfl)) ?_
  by_cases h5 : q3 = 0
  · rw [if_pos h5] at hf
    refine go_it (t := 57) (f := 20) (L1 := [some (.ref 0), some (.int x1), some (.int x2), some (.int x3)]) (st1 := []) (σ1 := σ) rfl h5 ?_
    refine go_e (L1 := [none, none, none, none]) rfl rfl ?_
    refine go_n 1 (f := (58, [none, none, none, none], [.int (-1)], σ)) rfl ?_
    cases hf
    exact go_r rfl
  · rw [if_neg h5] at hf
    refine go_if (t := 57) (f := 20) (L1 := [some (.ref 0), some (.int x1), some (.int x2), some (.int x3)]) (st1 := []) (σ1 := σ) rfl h5 ?_
    refine go_n 6 (f := (30, [some (.ref 0), some (.int x1), some (.int x2), some (.int x3)], [.int x1, .ref 4, .int 0, .int x2], σ)) rfl ?_
    obtain ⟨q6, h7, hf⟩ := bnd hf
    refine go_c (mid := 2825) (args := [.ref 4, .int x1]) (pc := 33) (L := [some (.ref 0), some (.int x1), some (.int x2), some (.int x3)]) (st := [.int 0, .int x2]) (σ := σ) rfl ((fJ2_get_ok _ _ _ q6 h7).deep (Nat.le_of_ble_eq_true rfl)) ?_
    obtain ⟨h8, hf⟩ := grd hf
    refine go_cast rfl rfl rfl h8 ?_
    obtain ⟨h10, hf⟩ := grd hf
    refine go_get rfl rfl rfl h10 ?_
    show Go true 5 iX0_force (39, [some (.ref 0), some (.int x1), some (.int x2), some (.int x3)], va_rf (rf σ q6 2) :: [.int 0, .int x2], σ) _
    generalize hR11 : (rf σ q6 2) = h27 at hf ⊢
    cases h27 with
    | none =>
      cases hf
    | some a9 =>
      obtain ⟨h12, hf⟩ := grd hf
      obtain ⟨q13, h14, hf⟩ := bnd hf
      refine go_c (mid := 2821) (args := [.ref a9]) (pc := 42) (L := [some (.ref 0), some (.int x1), some (.int x2), some (.int x3)]) (st := [.int 0, .int x2]) (σ := σ) (stp_callV1 (n := 1) rfl rfl rfl ⟨Nat.le_of_ble_eq_true rfl, Nat.le_of_ble_eq_true rfl⟩ rfl h12 rfl) ((fJ2_size_ok _ _ q13 h14).deep (Nat.le_of_ble_eq_true rfl)) ?_
      refine go_n 2 (f := (44, [some (.ref 0), some (.int x1), some (.int x2), some (.int x3)], [.int (q13 - 1), .int 0, .int x2], σ)) rfl ?_
      obtain ⟨q15, h16, hf⟩ := bnd hf
      refine go_c (mid := 5122) (args := [.int x2, .int 0, .int (q13 - 1)]) (pc := 47) (L := [some (.ref 0), some (.int x1), some (.int x2), some (.int x3)]) (st := []) (σ := σ) rfl ((fX0_in_ok _ _ _ _ q15 h16).deep (Nat.le_of_ble_eq_true rfl)) ?_
      by_cases h17 : q15 = 0
      · rw [if_pos h17] at hf
        refine go_it (t := 57) (f := 50) (L1 := [some (.ref 0), some (.int x1), some (.int x2), some (.int x3)]) (st1 := []) (σ1 := σ) rfl h17 ?_
        refine go_e (L1 := [none, none, none, none]) rfl rfl ?_
        refine go_n 1 (f := (58, [none, none, none, none], [.int (-1)], σ)) rfl ?_
        cases hf
        exact go_r rfl
      · rw [if_neg h17] at hf
        refine go_if (t := 57) (f := 50) (L1 := [some (.ref 0), some (.int x1), some (.int x2), some (.int x3)]) (st1 := []) (σ1 := σ) rfl h17 ?_
        refine go_n 1 (f := (51, [some (.ref 0), some (.int x1), some (.int x2), some (.int x3)], [.int x3], σ)) rfl ?_
        obtain ⟨q18, h19, hf⟩ := bnd hf
        refine go_c (mid := 5147) (args := [.int x3]) (pc := 54) (L := [some (.ref 0), some (.int x1), some (.int x2), some (.int x3)]) (st := []) (σ := σ) rfl ((fX0_isDesk_ok _ _ q18 h19).deep (Nat.le_of_ble_eq_true rfl)) ?_
        by_cases h20 : q18 ≠ 0
        · rw [if_pos h20] at hf
          refine go_it (t := 59) (f := 57) (L1 := [some (.ref 0), some (.int x1), some (.int x2), some (.int x3)]) (st1 := []) (σ1 := σ) rfl h20 ?_
          refine go_n 3 (f := (64, [some (.ref 0), some (.int x1), some (.int x2), some (.int x3)], [.int x3, .ref 28], σ)) rfl ?_
          obtain ⟨q21, h22, hf⟩ := bnd hf
          refine go_c (mid := 8193) (args := [.ref 28, .int x3]) (pc := 67) (L := [some (.ref 0), some (.int x1), some (.int x2), some (.int x3)]) (st := []) (σ := σ) rfl ((fX2_looks_ok _ _ q21 h22).deep (Nat.le_of_ble_eq_true rfl)) ?_
          refine go_n 8 (f := (80, [some (.ref 0), some (.int x1), some (.int x2), some (.int x3)], [.int ((12 * x1) + x2), .ref 29], q21)) rfl ?_
          obtain ⟨h23, hf⟩ := grd hf
          refine go_bald rfl rfl (Or.inr rfl) h23 ?_
          refine go_m (f := (89, [none, none, none, none], [.int ((if (gi q21 29 ((12 * x1) + x2).toNatClampNeg) = 0 then 0 else 1) : Int32)], q21)) ?_ (fun hJ26 => ?_)
          · generalize hz25 : ((if (gi q21 29 ((12 * x1) + x2).toNatClampNeg) = 0 then 0 else 1) : Int32) = z25 at hf ⊢
            have oz25 : am_ok 3 z25 = true := hz25 ▸ (okb rfl rfl)
            try dsimp only at hf
            cases hf
            exact go_r rfl
          · by_cases h24 : (gi q21 29 ((12 * x1) + x2).toNatClampNeg) = 0
            · refine go_it (t := 88) (f := 84) (L1 := [some (.ref 0), some (.int x1), some (.int x2), some (.int x3)]) (st1 := []) (σ1 := q21) rfl h24 ?_
              refine go_n 1 (f := (89, [some (.ref 0), some (.int x1), some (.int x2), some (.int x3)], [.int 0], q21)) rfl ?_
              refine go_e (L1 := [none, none, none, none]) rfl rfl ?_
              simp only [if_pos h24] at hJ26
              first | exact hJ26 | (simp only [if_pos h24]; exact hJ26)
            · refine go_if (t := 88) (f := 84) (L1 := [some (.ref 0), some (.int x1), some (.int x2), some (.int x3)]) (st1 := []) (σ1 := q21) rfl h24 ?_
              refine go_n 2 (f := (89, [some (.ref 0), some (.int x1), some (.int x2), some (.int x3)], [.int 1], q21)) rfl ?_
              refine go_e (L1 := [none, none, none, none]) rfl rfl ?_
              simp only [if_neg h24] at hJ26
              first | exact hJ26 | (simp only [if_neg h24]; exact hJ26)
        · rw [if_neg h20] at hf
          refine go_if (t := 59) (f := 57) (L1 := [some (.ref 0), some (.int x1), some (.int x2), some (.int x3)]) (st1 := []) (σ1 := σ) rfl h20 ?_
          refine go_e (L1 := [none, none, none, none]) rfl rfl ?_
          refine go_n 1 (f := (58, [none, none, none, none], [.int (-1)], σ)) rfl ?_
          cases hf
          exact go_r rfl
/-! OldWeather.seal(II)I -/
def fX0_seal (x1 : Int32) (x2 : Int32) (σ : Sg) : Option (Int32 × Sg) :=
  (fX0_isMonth x1 x2).bind fun q1 => if q1 ≠ 0 then (fX0_sums x1 x2 σ).bind fun q4 => (fX0_monthAt x1 x2).bind fun q6 => if inb q6 3624 then if inb q6 3624 then if inb q6 3624 then (fX0_done (gi q4 0 50) (wl (wl (wi q4 21 q6.toNatClampNeg (gi q4 0 50)) 22 q6.toNatClampNeg (gl q4 0 48)) 23 q6.toNatClampNeg (gl q4 0 49))).bind fun q11 => some (q11.1, q11.2) else none else none else none else (fX0_refuse (-1) σ).bind fun q13 => some (q13.1, q13.2)
set_option maxHeartbeats 1500000 in
theorem fX0_seal_ok (x1 : Int32) (x2 : Int32) (σ : Sg) (r : (Int32 × Sg)) (hf : fX0_seal x1 x2 σ = some r) : Cl true 5 5210 [.ref 0, .int x1, .int x2] σ (.inl (some (.int (r).1)), (r).2) := by
  refine ⟨iX0_seal, rfl, Nat.le_of_ble_eq_true rfl, Nat.le_of_ble_eq_true rfl, ?_⟩
  show Go true 5 iX0_seal (0, [some (.ref 0), some (.int x1), some (.int x2), none], [], σ) (.inl (some (.int (r).1)), (r).2)
  unfold fX0_seal at hf
  refine go_n 2 (f := (2, [some (.ref 0), some (.int x1), some (.int x2), none], [.int x2, .int x1], σ)) rfl ?_
  obtain ⟨q1, h2, hf⟩ := bnd hf
  refine go_c (mid := 5211) (args := [.int x1, .int x2]) (pc := 5) (L := [some (.ref 0), some (.int x1), some (.int x2), none]) (st := []) (σ := σ) rfl ((fX0_isMonth_ok _ _ _ q1 h2).deep (Nat.le_of_ble_eq_true rfl)) ?_
  by_cases h3 : q1 ≠ 0
  · rw [if_pos h3] at hf
    refine go_it (t := 14) (f := 8) (L1 := [some (.ref 0), some (.int x1), some (.int x2), none]) (st1 := []) (σ1 := σ) rfl h3 ?_
    refine go_n 3 (f := (17, [some (.ref 0), some (.int x1), some (.int x2), none], [.int x2, .int x1, .ref 0], σ)) rfl ?_
    obtain ⟨q4, h5, hf⟩ := bnd hf
    refine go_c (mid := 5212) (args := [.ref 0, .int x1, .int x2]) (pc := 20) (L := [some (.ref 0), some (.int x1), some (.int x2), none]) (st := []) (σ := σ) rfl ((fX0_sums_ok _ _ _ q4 h5).deep (Nat.le_of_ble_eq_true rfl)) ?_
    refine go_n 2 (f := (22, [some (.ref 0), some (.int x1), some (.int x2), none], [.int x2, .int x1], q4)) rfl ?_
    obtain ⟨q6, h7, hf⟩ := bnd hf
    refine go_c (mid := 5214) (args := [.int x1, .int x2]) (pc := 25) (L := [some (.ref 0), some (.int x1), some (.int x2), none]) (st := []) (σ := q4) rfl ((fX0_monthAt_ok _ _ _ q6 h7).deep (Nat.le_of_ble_eq_true rfl)) ?_
    refine go_n 7 (f := (38, [some (.ref 0), some (.int x1), some (.int x2), some (.int q6)], [.int (gi q4 0 50), .int q6, .ref 21], q4)) rfl ?_
    obtain ⟨h8, hf⟩ := grd hf
    refine go_iast rfl rfl rfl h8 ?_
    refine go_n 6 (f := (51, [some (.ref 0), some (.int x1), some (.int x2), some (.int q6)], [.long (gl q4 0 48), .int q6, .ref 22], (wi q4 21 q6.toNatClampNeg (gi q4 0 50)))) rfl ?_
    obtain ⟨h9, hf⟩ := grd hf
    refine go_last rfl rfl rfl h9 ?_
    refine go_n 6 (f := (64, [some (.ref 0), some (.int x1), some (.int x2), some (.int q6)], [.long (gl q4 0 49), .int q6, .ref 23], (wl (wi q4 21 q6.toNatClampNeg (gi q4 0 50)) 22 q6.toNatClampNeg (gl q4 0 48)))) rfl ?_
    obtain ⟨h10, hf⟩ := grd hf
    refine go_last rfl rfl rfl h10 ?_
    refine go_n 3 (f := (70, [some (.ref 0), some (.int x1), some (.int x2), some (.int q6)], [.int (gi q4 0 50), .ref 0], (wl (wl (wi q4 21 q6.toNatClampNeg (gi q4 0 50)) 22 q6.toNatClampNeg (gl q4 0 48)) 23 q6.toNatClampNeg (gl q4 0 49)))) rfl ?_
    obtain ⟨q11, h12, hf⟩ := bnd hf
    refine go_c (mid := 5134) (args := [.ref 0, .int (gi q4 0 50)]) (pc := 73) (L := [some (.ref 0), some (.int x1), some (.int x2), some (.int q6)]) (st := []) (σ := (wl (wl (wi q4 21 q6.toNatClampNeg (gi q4 0 50)) 22 q6.toNatClampNeg (gl q4 0 48)) 23 q6.toNatClampNeg (gl q4 0 49))) rfl ((fX0_done_ok _ _ q11 h12).deep (Nat.le_of_ble_eq_true rfl)) ?_
    cases hf
    exact go_r rfl
  · rw [if_neg h3] at hf
    refine go_if (t := 14) (f := 8) (L1 := [some (.ref 0), some (.int x1), some (.int x2), none]) (st1 := []) (σ1 := σ) rfl h3 ?_
    refine go_n 2 (f := (10, [some (.ref 0), some (.int x1), some (.int x2), none], [.int (-1), .ref 0], σ)) rfl ?_
    obtain ⟨q13, h14, hf⟩ := bnd hf
    refine go_c (mid := 5133) (args := [.ref 0, .int (-1)]) (pc := 13) (L := [some (.ref 0), some (.int x1), some (.int x2), none]) (st := []) (σ := σ) rfl ((fX0_refuse_ok _ _ q13 h14).deep (Nat.le_of_ble_eq_true rfl)) ?_
    cases hf
    exact go_r rfl
/-! OldWeather$Told.over(Ljava/util/ArrayList;Ljava/util/ArrayList;)V -/
def fX1_over (x0 : Nat) (x1 : Nat) (σ : Sg) : Option Sg :=
  if (kk σ x0) = 16 then (fJ2_clear x0 σ).bind fun q2 => if (kk q2 x0) = 16 then (fJ2_addAll x0 x1 q2).bind fun q5 => some q5.2 else none else none
set_option maxHeartbeats 1500000 in
theorem fX1_over_ok (x0 : Nat) (x1 : Nat) (σ : Sg) (r : Sg) (hf : fX1_over x0 x1 σ = some r) : Cl true 4 5378 [.ref x0, .ref x1] σ (.inl none, r) := by
  refine ⟨iX1_over, rfl, Nat.le_of_ble_eq_true rfl, Nat.le_of_ble_eq_true rfl, ?_⟩
  show Go true 4 iX1_over (0, [some (.ref x0), some (.ref x1)], [], σ) (.inl none, r)
  unfold fX1_over at hf
  refine go_n 1 (f := (1, [some (.ref x0), some (.ref x1)], [.ref x0], σ)) rfl ?_
  obtain ⟨h1, hf⟩ := grd hf
  obtain ⟨q2, h3, hf⟩ := bnd hf
  refine go_c (mid := 2817) (args := [.ref x0]) (pc := 4) (L := [some (.ref x0), some (.ref x1)]) (st := []) (σ := σ) (stp_callV1 (n := 1) rfl rfl rfl ⟨Nat.le_of_ble_eq_true rfl, Nat.le_of_ble_eq_true rfl⟩ rfl h1 rfl) ((fJ2_clear_ok _ _ q2 h3).deep (Nat.le_of_ble_eq_true rfl)) ?_
  refine go_n 2 (f := (6, [some (.ref x0), some (.ref x1)], [.ref x1, .ref x0], q2)) rfl ?_
  obtain ⟨h4, hf⟩ := grd hf
  obtain ⟨q5, h6, hf⟩ := bnd hf
  refine go_c (mid := 2818) (args := [.ref x0, .ref x1]) (pc := 9) (L := [some (.ref x0), some (.ref x1)]) (st := []) (σ := q2) (stp_callV1 (n := 2) rfl rfl rfl ⟨Nat.le_of_ble_eq_true rfl, Nat.le_of_ble_eq_true rfl⟩ rfl h4 rfl) ((fJ2_addAll_ok _ _ _ q5 h6).deep (Nat.le_of_ble_eq_true rfl)) ?_
  refine go_n 1 (f := (10, [some (.ref x0), some (.ref x1)], [], q5.2)) rfl ?_
  cases hf
  exact go_r rfl
/-! java/util/ArrayList.add(Ljava/lang/Object;)Z -/
def fJ2_add (x0 : Nat) (x1 : Nat) (σ : Sg) : Option (Int32 × Sg) :=
  if [16].elem (kk σ x0) = true then if [16].elem (kk σ x0) = true then if [16].elem (kk σ x0) = true then (match (rf σ x0 1) with
  | some a3 => if [16].elem (kk σ x0) = true then if (kk σ x0) = 16 then (fJ2_add_2 x0 x1 a3 (gi σ x0 2) (wi σ x0 0 ((gi σ x0 0) + 1))).bind fun q8 => some (1, q8) else none else none
  | none => none) else none else none else none
set_option maxHeartbeats 1500000 in
theorem fJ2_add_ok (x0 : Nat) (x1 : Nat) (σ : Sg) (r : (Int32 × Sg)) (hf : fJ2_add x0 x1 σ = some r) : Cl true 5 2822 [.ref x0, .ref x1] σ (.inl (some (.int (r).1)), (r).2) := by
  refine ⟨iJ2_add, rfl, Nat.le_of_ble_eq_true rfl, Nat.le_of_ble_eq_true rfl, ?_⟩
  show Go true 5 iJ2_add (0, [some (.ref x0), some (.ref x1)], [], σ) (.inl (some (.int (r).1)), (r).2)
  unfold fJ2_add at hf
  refine go_n 2 (f := (2, [some (.ref x0), some (.ref x1)], [.ref x0, .ref x0], σ)) rfl ?_
  obtain ⟨h1, hf⟩ := grd hf
  refine go_get rfl rfl rfl h1 ?_
  refine go_n 2 (f := (7, [some (.ref x0), some (.ref x1)], [.int ((gi σ x0 0) + 1), .ref x0], σ)) rfl ?_
  obtain ⟨h2, hf⟩ := grd hf
  refine go_puti rfl rfl rfl h2 rfl rfl rfl ?_
  refine go_n 3 (f := (13, [some (.ref x0), some (.ref x1)], [.ref x0, .ref x1, .ref x0], (wi σ x0 0 ((gi σ x0 0) + 1)))) rfl ?_
  obtain ⟨h4, hf⟩ := grd hf
  refine go_get rfl rfl rfl h4 ?_
  rw [show am_rf true (wi σ x0 0 ((gi σ x0 0) + 1)) x0 1 2 = va_rf (rf σ x0 1) from by simp [am_rf, rf, grT, gr, wr, wi, wl]]
  show Go true 5 iJ2_add (16, [some (.ref x0), some (.ref x1)], va_rf (rf σ x0 1) :: [.ref x1, .ref x0], (wi σ x0 0 ((gi σ x0 0) + 1))) _
  generalize hR5 : (rf σ x0 1) = h10 at hf ⊢
  cases h10 with
  | none =>
    cases hf
  | some a3 =>
    refine go_n 1 (f := (17, [some (.ref x0), some (.ref x1)], [.ref x0, .ref a3, .ref x1, .ref x0], (wi σ x0 0 ((gi σ x0 0) + 1)))) rfl ?_
    obtain ⟨h6, hf⟩ := grd hf
    refine go_get rfl rfl rfl h6 ?_
    rw [show am_rf true (wi σ x0 0 ((gi σ x0 0) + 1)) x0 2 0 = .int (gi σ x0 2) from by simp [am_rf, gi, gl, wi, wl, wr]]
    obtain ⟨h7, hf⟩ := grd hf
    obtain ⟨q8, h9, hf⟩ := bnd hf
    refine go_c (mid := 2823) (args := [.ref x0, .ref x1, .ref a3, .int (gi σ x0 2)]) (pc := 23) (L := [some (.ref x0), some (.ref x1)]) (st := []) (σ := (wi σ x0 0 ((gi σ x0 0) + 1))) (stp_callV1 (n := 4) rfl rfl rfl ⟨Nat.le_of_ble_eq_true rfl, Nat.le_of_ble_eq_true rfl⟩ rfl h7 rfl) ((fJ2_add_2_ok _ _ _ _ _ q8 h9).deep (Nat.le_of_ble_eq_true rfl)) ?_
    refine go_n 1 (f := (24, [some (.ref x0), some (.ref x1)], [.int 1], q8)) rfl ?_
    cases hf
    exact go_r rfl
/-! OldWeather.puts(LOldWeather$Reading;I)I -/
def fX0_puts (x1 : Nat) (x2 : Int32) (σ : Sg) : Option (Int32 × Sg) :=
  if [17, 18, 19, 20, 21].elem (kk σ x1) = true then if inb (gi σ x1 0) 200 then if [17, 18, 19, 20, 21].elem (kk σ x1) = true then if inb (gi (wi σ 18 (gi σ x1 0).toNatClampNeg x2) x1 0) 200 then (fJ2_add 2 x1 (wi (wi σ 18 (gi σ x1 0).toNatClampNeg x2) 19 (gi (wi σ 18 (gi σ x1 0).toNatClampNeg x2) x1 0).toNatClampNeg (-1))).bind fun q5 => if [17, 18, 19, 20, 21].elem (kk q5.2 x1) = true then (fX0_told (gi q5.2 x1 0) q5.2).bind fun q8 => some (q8.1, q8.2) else none else none else none else none else none
set_option maxHeartbeats 1500000 in
theorem fX0_puts_ok (x1 : Nat) (x2 : Int32) (σ : Sg) (r : (Int32 × Sg)) (hf : fX0_puts x1 x2 σ = some r) : Cl true 6 5148 [.ref 0, .ref x1, .int x2] σ (.inl (some (.int (r).1)), (r).2) := by
  refine ⟨iX0_puts, rfl, Nat.le_of_ble_eq_true rfl, Nat.le_of_ble_eq_true rfl, ?_⟩
  show Go true 6 iX0_puts (0, [some (.ref 0), some (.ref x1), some (.int x2)], [], σ) (.inl (some (.int (r).1)), (r).2)
  unfold fX0_puts at hf
  refine go_n 4 (f := (8, [some (.ref 0), some (.ref x1), some (.int x2)], [.ref x1, .ref 18], σ)) rfl ?_
  obtain ⟨h1, hf⟩ := grd hf
  refine go_get rfl rfl rfl h1 ?_
  refine go_n 1 (f := (12, [some (.ref 0), some (.ref x1), some (.int x2)], [.int x2, .int (gi σ x1 0), .ref 18], σ)) rfl ?_
  obtain ⟨h2, hf⟩ := grd hf
  refine go_iast rfl rfl rfl h2 ?_
  refine go_n 4 (f := (21, [some (.ref 0), some (.ref x1), some (.int x2)], [.ref x1, .ref 19], (wi σ 18 (gi σ x1 0).toNatClampNeg x2))) rfl ?_
  obtain ⟨h3, hf⟩ := grd hf
  refine go_get rfl rfl rfl h3 ?_
  rw [show am_rf true (wi σ 18 (gi σ x1 0).toNatClampNeg x2) x1 0 0 = .int (gi (wi σ 18 (gi σ x1 0).toNatClampNeg x2) x1 0) from by simp [am_rf, gi, gl, wi, wl, wr]]
  refine go_n 1 (f := (25, [some (.ref 0), some (.ref x1), some (.int x2)], [.int (-1), .int (gi (wi σ 18 (gi σ x1 0).toNatClampNeg x2) x1 0), .ref 19], (wi σ 18 (gi σ x1 0).toNatClampNeg x2))) rfl ?_
  obtain ⟨h4, hf⟩ := grd hf
  refine go_iast rfl rfl rfl h4 ?_
  refine go_n 4 (f := (34, [some (.ref 0), some (.ref x1), some (.int x2)], [.ref x1, .ref 2], (wi (wi σ 18 (gi σ x1 0).toNatClampNeg x2) 19 (gi (wi σ 18 (gi σ x1 0).toNatClampNeg x2) x1 0).toNatClampNeg (-1)))) rfl ?_
  obtain ⟨q5, h6, hf⟩ := bnd hf
  refine go_c (mid := 2822) (args := [.ref 2, .ref x1]) (pc := 37) (L := [some (.ref 0), some (.ref x1), some (.int x2)]) (st := []) (σ := (wi (wi σ 18 (gi σ x1 0).toNatClampNeg x2) 19 (gi (wi σ 18 (gi σ x1 0).toNatClampNeg x2) x1 0).toNatClampNeg (-1))) rfl ((fJ2_add_ok _ _ _ q5 h6).deep (Nat.le_of_ble_eq_true rfl)) ?_
  refine go_n 3 (f := (40, [some (.ref 0), some (.ref x1), some (.int x2)], [.ref x1, .ref 0], q5.2)) rfl ?_
  obtain ⟨h7, hf⟩ := grd hf
  refine go_get rfl rfl rfl h7 ?_
  obtain ⟨q8, h9, hf⟩ := bnd hf
  refine go_c (mid := 5136) (args := [.ref 0, .int (gi q5.2 x1 0)]) (pc := 46) (L := [some (.ref 0), some (.ref x1), some (.int x2)]) (st := []) (σ := q5.2) rfl ((fX0_told_ok _ _ q8 h9).deep (Nat.le_of_ble_eq_true rfl)) ?_
  cases hf
  exact go_r rfl
/-! OldWeather.gauge(IIIIII)I -/
def fX0_gauge_J29 (x1 : Int32) (x2 : Int32) (x3 : Int32) (x4 : Int32) (x5 : Int32) (x6 : Int32) (s0 : Int32)  (σ : Sg) : Option (Int32 × Sg) :=
  if 0 ≤ s0 then (am_new σ (18, 0) 6).bind fun σ8 => (fJ2_size 2 σ8).bind fun q9 => (fX10_init (gz σ) q9 x1 x2 x3 x4 x6 σ8).bind fun q11 => (fX0_puts (gz σ) x5 q11).bind fun q13 => some (q13.1, q13.2) else (fX0_refuse s0 σ).bind fun q15 => some (q15.1, q15.2)
set_option maxHeartbeats 1500000 in
theorem fX0_gauge_J29_ok (x1 : Int32) (x2 : Int32) (x3 : Int32) (x4 : Int32) (x5 : Int32) (x6 : Int32) (s0 : Int32)  (σ : Sg)  (r : (Int32 × Sg)) (hf : fX0_gauge_J29 x1 x2 x3 x4 x5 x6 s0  σ = some r) : Go true 7 iX0_gauge (29, [some (.ref 0), some (.int x1), some (.int x2), some (.int x3), some (.int x4), some (.int x5), some (.int x6), none], [.int s0], σ) (.inl (some (.int (r).1)), (r).2) := by
  unfold fX0_gauge_J29 at hf
  refine go_n 2 (f := (33, [some (.ref 0), some (.int x1), some (.int x2), some (.int x3), some (.int x4), some (.int x5), some (.int x6), some (.int s0)], [.int s0], σ)) rfl ?_
  by_cases h6 : 0 ≤ s0
  · rw [if_pos h6] at hf
    refine go_it (t := 45) (f := 36) (L1 := [some (.ref 0), some (.int x1), some (.int x2), some (.int x3), some (.int x4), some (.int x5), some (.int x6), some (.int s0)]) (st1 := []) (σ1 := σ) rfl h6 ?_
    refine go_n 1 (f := (46, [some (.ref 0), some (.int x1), some (.int x2), some (.int x3), some (.int x4), some (.int x5), some (.int x6), some (.int s0)], [.ref 0], σ)) rfl ?_
    obtain ⟨σ8, h7, hf⟩ := bnd hf
    refine go_new rfl rfl rfl h7 ?_
    refine go_n 4 (f := (57, [some (.ref 0), some (.int x1), some (.int x2), some (.int x3), some (.int x4), some (.int x5), some (.int x6), some (.int s0)], [.ref 2, .ref (gz σ), .ref (gz σ), .ref 0], σ8)) rfl ?_
    obtain ⟨q9, h10, hf⟩ := bnd hf
    refine go_c (mid := 2821) (args := [.ref 2]) (pc := 60) (L := [some (.ref 0), some (.int x1), some (.int x2), some (.int x3), some (.int x4), some (.int x5), some (.int x6), some (.int s0)]) (st := [.ref (gz σ), .ref (gz σ), .ref 0]) (σ := σ8) rfl ((fJ2_size_ok _ _ q9 h10).deep (Nat.le_of_ble_eq_true rfl)) ?_
    refine go_n 5 (f := (67, [some (.ref 0), some (.int x1), some (.int x2), some (.int x3), some (.int x4), some (.int x5), some (.int x6), some (.int s0)], [.int x6, .int x4, .int x3, .int x2, .int x1, .int q9, .ref (gz σ), .ref (gz σ), .ref 0], σ8)) rfl ?_
    obtain ⟨q11, h12, hf⟩ := bnd hf
    refine go_c (mid := 5632) (args := [.ref (gz σ), .int q9, .int x1, .int x2, .int x3, .int x4, .int x6]) (pc := 70) (L := [some (.ref 0), some (.int x1), some (.int x2), some (.int x3), some (.int x4), some (.int x5), some (.int x6), some (.int s0)]) (st := [.ref (gz σ), .ref 0]) (σ := σ8) rfl ((fX10_init_ok _ _ _ _ _ _ _ _ q11 h12).deep (Nat.le_of_ble_eq_true rfl)) ?_
    refine go_n 1 (f := (72, [some (.ref 0), some (.int x1), some (.int x2), some (.int x3), some (.int x4), some (.int x5), some (.int x6), some (.int s0)], [.int x5, .ref (gz σ), .ref 0], q11)) rfl ?_
    obtain ⟨q13, h14, hf⟩ := bnd hf
    refine go_c (mid := 5148) (args := [.ref 0, .ref (gz σ), .int x5]) (pc := 75) (L := [some (.ref 0), some (.int x1), some (.int x2), some (.int x3), some (.int x4), some (.int x5), some (.int x6), some (.int s0)]) (st := []) (σ := q11) rfl ((fX0_puts_ok _ _ _ q13 h14).deep (Nat.le_of_ble_eq_true rfl)) ?_
    refine go_e (L1 := [none, none, none, none, none, none, none, none]) rfl rfl ?_
    cases hf
    exact go_r rfl
  · rw [if_neg h6] at hf
    refine go_if (t := 45) (f := 36) (L1 := [some (.ref 0), some (.int x1), some (.int x2), some (.int x3), some (.int x4), some (.int x5), some (.int x6), some (.int s0)]) (st1 := []) (σ1 := σ) rfl h6 ?_
    refine go_n 2 (f := (39, [some (.ref 0), some (.int x1), some (.int x2), some (.int x3), some (.int x4), some (.int x5), some (.int x6), some (.int s0)], [.int s0, .ref 0], σ)) rfl ?_
    obtain ⟨q15, h16, hf⟩ := bnd hf
    refine go_c (mid := 5133) (args := [.ref 0, .int s0]) (pc := 42) (L := [some (.ref 0), some (.int x1), some (.int x2), some (.int x3), some (.int x4), some (.int x5), some (.int x6), some (.int s0)]) (st := []) (σ := σ) rfl ((fX0_refuse_ok _ _ q15 h16).deep (Nat.le_of_ble_eq_true rfl)) ?_
    refine go_n 1 (f := (75, [some (.ref 0), some (.int x1), some (.int x2), some (.int x3), some (.int x4), some (.int x5), some (.int x6), some (.int s0)], [.int q15.1], q15.2)) rfl ?_
    refine go_e (L1 := [none, none, none, none, none, none, none, none]) rfl rfl ?_
    cases hf
    exact go_r rfl
def fX0_gauge (x1 : Int32) (x2 : Int32) (x3 : Int32) (x4 : Int32) (x5 : Int32) (x6 : Int32) (σ : Sg) : Option (Int32 × Sg) :=
  (fX0_in x5 (-600) 600).bind fun q1 => if q1 ≠ 0 then (fX0_lacks x1 x2 x3 x4 x6 σ).bind fun q4 => fX0_gauge_J29 x1 x2 x3 x4 x5 x6 q4  σ else fX0_gauge_J29 x1 x2 x3 x4 x5 x6 (-1)  σ
set_option maxHeartbeats 1500000 in
theorem fX0_gauge_ok (x1 : Int32) (x2 : Int32) (x3 : Int32) (x4 : Int32) (x5 : Int32) (x6 : Int32) (σ : Sg) (r : (Int32 × Sg)) (hf : fX0_gauge x1 x2 x3 x4 x5 x6 σ = some r) : Cl true 7 5149 [.ref 0, .int x1, .int x2, .int x3, .int x4, .int x5, .int x6] σ (.inl (some (.int (r).1)), (r).2) := by
  refine ⟨iX0_gauge, rfl, Nat.le_of_ble_eq_true rfl, Nat.le_of_ble_eq_true rfl, ?_⟩
  show Go true 7 iX0_gauge (0, [some (.ref 0), some (.int x1), some (.int x2), some (.int x3), some (.int x4), some (.int x5), some (.int x6), none], [], σ) (.inl (some (.int (r).1)), (r).2)
  unfold fX0_gauge at hf
  refine go_n 3 (f := (8, [some (.ref 0), some (.int x1), some (.int x2), some (.int x3), some (.int x4), some (.int x5), some (.int x6), none], [.int 600, .int (-600), .int x5], σ)) rfl ?_
  obtain ⟨q1, h2, hf⟩ := bnd hf
  refine go_c (mid := 5122) (args := [.int x5, .int (-600), .int 600]) (pc := 11) (L := [some (.ref 0), some (.int x1), some (.int x2), some (.int x3), some (.int x4), some (.int x5), some (.int x6), none]) (st := []) (σ := σ) rfl ((fX0_in_ok _ _ _ _ q1 h2).deep (Nat.le_of_ble_eq_true rfl)) ?_
  by_cases h3 : q1 ≠ 0
  · rw [if_pos h3] at hf
    refine go_it (t := 18) (f := 14) (L1 := [some (.ref 0), some (.int x1), some (.int x2), some (.int x3), some (.int x4), some (.int x5), some (.int x6), none]) (st1 := []) (σ1 := σ) rfl h3 ?_
    refine go_n 6 (f := (26, [some (.ref 0), some (.int x1), some (.int x2), some (.int x3), some (.int x4), some (.int x5), some (.int x6), none], [.int x6, .int x4, .int x3, .int x2, .int x1, .ref 0], σ)) rfl ?_
    obtain ⟨q4, h5, hf⟩ := bnd hf
    refine go_c (mid := 5146) (args := [.ref 0, .int x1, .int x2, .int x3, .int x4, .int x6]) (pc := 29) (L := [some (.ref 0), some (.int x1), some (.int x2), some (.int x3), some (.int x4), some (.int x5), some (.int x6), none]) (st := []) (σ := σ) rfl ((fX0_lacks_ok _ _ _ _ _ _ q4 h5).deep (Nat.le_of_ble_eq_true rfl)) ?_
    exact fX0_gauge_J29_ok _ _ _ _ _ _ _  _  _ hf
  · rw [if_neg h3] at hf
    refine go_if (t := 18) (f := 14) (L1 := [some (.ref 0), some (.int x1), some (.int x2), some (.int x3), some (.int x4), some (.int x5), some (.int x6), none]) (st1 := []) (σ1 := σ) rfl h3 ?_
    refine go_n 2 (f := (29, [some (.ref 0), some (.int x1), some (.int x2), some (.int x3), some (.int x4), some (.int x5), some (.int x6), none], [.int (-1)], σ)) rfl ?_
    exact fX0_gauge_J29_ok _ _ _ _ _ _ _  _  _ hf
/-! OldWeather.log(IIIIII)I -/
def fX0_log_J26 (x1 : Int32) (x2 : Int32) (x3 : Int32) (x4 : Int32) (x5 : Int32) (x6 : Int32) (s0 : Int32)  (σ : Sg) : Option (Int32 × Sg) :=
  if 0 ≤ s0 then (am_new σ (19, 0) 6).bind fun σ8 => (fJ2_size 2 σ8).bind fun q9 => (fX11_init (gz σ) q9 x1 x2 x3 x4 x6 σ8).bind fun q11 => (fX0_puts (gz σ) x5 q11).bind fun q13 => some (q13.1, q13.2) else (fX0_refuse s0 σ).bind fun q15 => some (q15.1, q15.2)
set_option maxHeartbeats 1500000 in
theorem fX0_log_J26_ok (x1 : Int32) (x2 : Int32) (x3 : Int32) (x4 : Int32) (x5 : Int32) (x6 : Int32) (s0 : Int32)  (σ : Sg)  (r : (Int32 × Sg)) (hf : fX0_log_J26 x1 x2 x3 x4 x5 x6 s0  σ = some r) : Go true 7 iX0_log (26, [some (.ref 0), some (.int x1), some (.int x2), some (.int x3), some (.int x4), some (.int x5), some (.int x6), none], [.int s0], σ) (.inl (some (.int (r).1)), (r).2) := by
  unfold fX0_log_J26 at hf
  refine go_n 2 (f := (30, [some (.ref 0), some (.int x1), some (.int x2), some (.int x3), some (.int x4), some (.int x5), some (.int x6), some (.int s0)], [.int s0], σ)) rfl ?_
  by_cases h6 : 0 ≤ s0
  · rw [if_pos h6] at hf
    refine go_it (t := 42) (f := 33) (L1 := [some (.ref 0), some (.int x1), some (.int x2), some (.int x3), some (.int x4), some (.int x5), some (.int x6), some (.int s0)]) (st1 := []) (σ1 := σ) rfl h6 ?_
    refine go_n 1 (f := (43, [some (.ref 0), some (.int x1), some (.int x2), some (.int x3), some (.int x4), some (.int x5), some (.int x6), some (.int s0)], [.ref 0], σ)) rfl ?_
    obtain ⟨σ8, h7, hf⟩ := bnd hf
    refine go_new rfl rfl rfl h7 ?_
    refine go_n 4 (f := (54, [some (.ref 0), some (.int x1), some (.int x2), some (.int x3), some (.int x4), some (.int x5), some (.int x6), some (.int s0)], [.ref 2, .ref (gz σ), .ref (gz σ), .ref 0], σ8)) rfl ?_
    obtain ⟨q9, h10, hf⟩ := bnd hf
    refine go_c (mid := 2821) (args := [.ref 2]) (pc := 57) (L := [some (.ref 0), some (.int x1), some (.int x2), some (.int x3), some (.int x4), some (.int x5), some (.int x6), some (.int s0)]) (st := [.ref (gz σ), .ref (gz σ), .ref 0]) (σ := σ8) rfl ((fJ2_size_ok _ _ q9 h10).deep (Nat.le_of_ble_eq_true rfl)) ?_
    refine go_n 5 (f := (64, [some (.ref 0), some (.int x1), some (.int x2), some (.int x3), some (.int x4), some (.int x5), some (.int x6), some (.int s0)], [.int x6, .int x4, .int x3, .int x2, .int x1, .int q9, .ref (gz σ), .ref (gz σ), .ref 0], σ8)) rfl ?_
    obtain ⟨q11, h12, hf⟩ := bnd hf
    refine go_c (mid := 5888) (args := [.ref (gz σ), .int q9, .int x1, .int x2, .int x3, .int x4, .int x6]) (pc := 67) (L := [some (.ref 0), some (.int x1), some (.int x2), some (.int x3), some (.int x4), some (.int x5), some (.int x6), some (.int s0)]) (st := [.ref (gz σ), .ref 0]) (σ := σ8) rfl ((fX11_init_ok _ _ _ _ _ _ _ _ q11 h12).deep (Nat.le_of_ble_eq_true rfl)) ?_
    refine go_n 1 (f := (69, [some (.ref 0), some (.int x1), some (.int x2), some (.int x3), some (.int x4), some (.int x5), some (.int x6), some (.int s0)], [.int x5, .ref (gz σ), .ref 0], q11)) rfl ?_
    obtain ⟨q13, h14, hf⟩ := bnd hf
    refine go_c (mid := 5148) (args := [.ref 0, .ref (gz σ), .int x5]) (pc := 72) (L := [some (.ref 0), some (.int x1), some (.int x2), some (.int x3), some (.int x4), some (.int x5), some (.int x6), some (.int s0)]) (st := []) (σ := q11) rfl ((fX0_puts_ok _ _ _ q13 h14).deep (Nat.le_of_ble_eq_true rfl)) ?_
    refine go_e (L1 := [none, none, none, none, none, none, none, none]) rfl rfl ?_
    cases hf
    exact go_r rfl
  · rw [if_neg h6] at hf
    refine go_if (t := 42) (f := 33) (L1 := [some (.ref 0), some (.int x1), some (.int x2), some (.int x3), some (.int x4), some (.int x5), some (.int x6), some (.int s0)]) (st1 := []) (σ1 := σ) rfl h6 ?_
    refine go_n 2 (f := (36, [some (.ref 0), some (.int x1), some (.int x2), some (.int x3), some (.int x4), some (.int x5), some (.int x6), some (.int s0)], [.int s0, .ref 0], σ)) rfl ?_
    obtain ⟨q15, h16, hf⟩ := bnd hf
    refine go_c (mid := 5133) (args := [.ref 0, .int s0]) (pc := 39) (L := [some (.ref 0), some (.int x1), some (.int x2), some (.int x3), some (.int x4), some (.int x5), some (.int x6), some (.int s0)]) (st := []) (σ := σ) rfl ((fX0_refuse_ok _ _ q15 h16).deep (Nat.le_of_ble_eq_true rfl)) ?_
    refine go_n 1 (f := (72, [some (.ref 0), some (.int x1), some (.int x2), some (.int x3), some (.int x4), some (.int x5), some (.int x6), some (.int s0)], [.int q15.1], q15.2)) rfl ?_
    refine go_e (L1 := [none, none, none, none, none, none, none, none]) rfl rfl ?_
    cases hf
    exact go_r rfl
def fX0_log (x1 : Int32) (x2 : Int32) (x3 : Int32) (x4 : Int32) (x5 : Int32) (x6 : Int32) (σ : Sg) : Option (Int32 × Sg) :=
  (fX0_in x5 0 12).bind fun q1 => if q1 ≠ 0 then (fX0_lacks x1 x2 x3 x4 x6 σ).bind fun q4 => fX0_log_J26 x1 x2 x3 x4 x5 x6 q4  σ else fX0_log_J26 x1 x2 x3 x4 x5 x6 (-1)  σ
set_option maxHeartbeats 1500000 in
theorem fX0_log_ok (x1 : Int32) (x2 : Int32) (x3 : Int32) (x4 : Int32) (x5 : Int32) (x6 : Int32) (σ : Sg) (r : (Int32 × Sg)) (hf : fX0_log x1 x2 x3 x4 x5 x6 σ = some r) : Cl true 7 5150 [.ref 0, .int x1, .int x2, .int x3, .int x4, .int x5, .int x6] σ (.inl (some (.int (r).1)), (r).2) := by
  refine ⟨iX0_log, rfl, Nat.le_of_ble_eq_true rfl, Nat.le_of_ble_eq_true rfl, ?_⟩
  show Go true 7 iX0_log (0, [some (.ref 0), some (.int x1), some (.int x2), some (.int x3), some (.int x4), some (.int x5), some (.int x6), none], [], σ) (.inl (some (.int (r).1)), (r).2)
  unfold fX0_log at hf
  refine go_n 3 (f := (5, [some (.ref 0), some (.int x1), some (.int x2), some (.int x3), some (.int x4), some (.int x5), some (.int x6), none], [.int 12, .int 0, .int x5], σ)) rfl ?_
  obtain ⟨q1, h2, hf⟩ := bnd hf
  refine go_c (mid := 5122) (args := [.int x5, .int 0, .int 12]) (pc := 8) (L := [some (.ref 0), some (.int x1), some (.int x2), some (.int x3), some (.int x4), some (.int x5), some (.int x6), none]) (st := []) (σ := σ) rfl ((fX0_in_ok _ _ _ _ q1 h2).deep (Nat.le_of_ble_eq_true rfl)) ?_
  by_cases h3 : q1 ≠ 0
  · rw [if_pos h3] at hf
    refine go_it (t := 15) (f := 11) (L1 := [some (.ref 0), some (.int x1), some (.int x2), some (.int x3), some (.int x4), some (.int x5), some (.int x6), none]) (st1 := []) (σ1 := σ) rfl h3 ?_
    refine go_n 6 (f := (23, [some (.ref 0), some (.int x1), some (.int x2), some (.int x3), some (.int x4), some (.int x5), some (.int x6), none], [.int x6, .int x4, .int x3, .int x2, .int x1, .ref 0], σ)) rfl ?_
    obtain ⟨q4, h5, hf⟩ := bnd hf
    refine go_c (mid := 5146) (args := [.ref 0, .int x1, .int x2, .int x3, .int x4, .int x6]) (pc := 26) (L := [some (.ref 0), some (.int x1), some (.int x2), some (.int x3), some (.int x4), some (.int x5), some (.int x6), none]) (st := []) (σ := σ) rfl ((fX0_lacks_ok _ _ _ _ _ _ q4 h5).deep (Nat.le_of_ble_eq_true rfl)) ?_
    exact fX0_log_J26_ok _ _ _ _ _ _ _  _  _ hf
  · rw [if_neg h3] at hf
    refine go_if (t := 15) (f := 11) (L1 := [some (.ref 0), some (.int x1), some (.int x2), some (.int x3), some (.int x4), some (.int x5), some (.int x6), none]) (st1 := []) (σ1 := σ) rfl h3 ?_
    refine go_n 2 (f := (26, [some (.ref 0), some (.int x1), some (.int x2), some (.int x3), some (.int x4), some (.int x5), some (.int x6), none], [.int (-1)], σ)) rfl ?_
    exact fX0_log_J26_ok _ _ _ _ _ _ _  _  _ hf
/-! OldWeather.proxy(IIIIIII)I -/
def fX0_proxy_J37 (x1 : Int32) (x2 : Int32) (x3 : Int32) (x4 : Int32) (x5 : Int32) (x6 : Int32) (x7 : Int32) (s0 : Int32)  (σ : Sg) : Option (Int32 × Sg) :=
  if 0 ≤ s0 then (am_new σ (20, 0) 7).bind fun σ6 => (fJ2_size 2 σ6).bind fun q7 => (fX12_init (gz σ) q7 x1 x2 x3 x4 x7 x5 σ6).bind fun q9 => (fX0_puts (gz σ) x6 q9).bind fun q11 => some (q11.1, q11.2) else (fX0_refuse s0 σ).bind fun q13 => some (q13.1, q13.2)
set_option maxHeartbeats 1500000 in
theorem fX0_proxy_J37_ok (x1 : Int32) (x2 : Int32) (x3 : Int32) (x4 : Int32) (x5 : Int32) (x6 : Int32) (x7 : Int32) (s0 : Int32)  (σ : Sg)  (r : (Int32 × Sg)) (hf : fX0_proxy_J37 x1 x2 x3 x4 x5 x6 x7 s0  σ = some r) : Go true 7 iX0_proxy (37, [some (.ref 0), some (.int x1), some (.int x2), some (.int x3), some (.int x4), some (.int x5), some (.int x6), some (.int x7), none], [.int s0], σ) (.inl (some (.int (r).1)), (r).2) := by
  unfold fX0_proxy_J37 at hf
  refine go_n 2 (f := (41, [some (.ref 0), some (.int x1), some (.int x2), some (.int x3), some (.int x4), some (.int x5), some (.int x6), some (.int x7), some (.int s0)], [.int s0], σ)) rfl ?_
  by_cases h4 : 0 ≤ s0
  · rw [if_pos h4] at hf
    refine go_it (t := 53) (f := 44) (L1 := [some (.ref 0), some (.int x1), some (.int x2), some (.int x3), some (.int x4), some (.int x5), some (.int x6), some (.int x7), some (.int s0)]) (st1 := []) (σ1 := σ) rfl h4 ?_
    refine go_n 1 (f := (54, [some (.ref 0), some (.int x1), some (.int x2), some (.int x3), some (.int x4), some (.int x5), some (.int x6), some (.int x7), some (.int s0)], [.ref 0], σ)) rfl ?_
    obtain ⟨σ6, h5, hf⟩ := bnd hf
    refine go_new rfl rfl rfl h5 ?_
    refine go_n 4 (f := (65, [some (.ref 0), some (.int x1), some (.int x2), some (.int x3), some (.int x4), some (.int x5), some (.int x6), some (.int x7), some (.int s0)], [.ref 2, .ref (gz σ), .ref (gz σ), .ref 0], σ6)) rfl ?_
    obtain ⟨q7, h8, hf⟩ := bnd hf
    refine go_c (mid := 2821) (args := [.ref 2]) (pc := 68) (L := [some (.ref 0), some (.int x1), some (.int x2), some (.int x3), some (.int x4), some (.int x5), some (.int x6), some (.int x7), some (.int s0)]) (st := [.ref (gz σ), .ref (gz σ), .ref 0]) (σ := σ6) rfl ((fJ2_size_ok _ _ q7 h8).deep (Nat.le_of_ble_eq_true rfl)) ?_
    refine go_n 6 (f := (77, [some (.ref 0), some (.int x1), some (.int x2), some (.int x3), some (.int x4), some (.int x5), some (.int x6), some (.int x7), some (.int s0)], [.int x5, .int x7, .int x4, .int x3, .int x2, .int x1, .int q7, .ref (gz σ), .ref (gz σ), .ref 0], σ6)) rfl ?_
    obtain ⟨q9, h10, hf⟩ := bnd hf
    refine go_c (mid := 6144) (args := [.ref (gz σ), .int q7, .int x1, .int x2, .int x3, .int x4, .int x7, .int x5]) (pc := 80) (L := [some (.ref 0), some (.int x1), some (.int x2), some (.int x3), some (.int x4), some (.int x5), some (.int x6), some (.int x7), some (.int s0)]) (st := [.ref (gz σ), .ref 0]) (σ := σ6) rfl ((fX12_init_ok _ _ _ _ _ _ _ _ _ q9 h10).deep (Nat.le_of_ble_eq_true rfl)) ?_
    refine go_n 1 (f := (82, [some (.ref 0), some (.int x1), some (.int x2), some (.int x3), some (.int x4), some (.int x5), some (.int x6), some (.int x7), some (.int s0)], [.int x6, .ref (gz σ), .ref 0], q9)) rfl ?_
    obtain ⟨q11, h12, hf⟩ := bnd hf
    refine go_c (mid := 5148) (args := [.ref 0, .ref (gz σ), .int x6]) (pc := 85) (L := [some (.ref 0), some (.int x1), some (.int x2), some (.int x3), some (.int x4), some (.int x5), some (.int x6), some (.int x7), some (.int s0)]) (st := []) (σ := q9) rfl ((fX0_puts_ok _ _ _ q11 h12).deep (Nat.le_of_ble_eq_true rfl)) ?_
    refine go_e (L1 := [none, none, none, none, none, none, none, none, none]) rfl rfl ?_
    cases hf
    exact go_r rfl
  · rw [if_neg h4] at hf
    refine go_if (t := 53) (f := 44) (L1 := [some (.ref 0), some (.int x1), some (.int x2), some (.int x3), some (.int x4), some (.int x5), some (.int x6), some (.int x7), some (.int s0)]) (st1 := []) (σ1 := σ) rfl h4 ?_
    refine go_n 2 (f := (47, [some (.ref 0), some (.int x1), some (.int x2), some (.int x3), some (.int x4), some (.int x5), some (.int x6), some (.int x7), some (.int s0)], [.int s0, .ref 0], σ)) rfl ?_
    obtain ⟨q13, h14, hf⟩ := bnd hf
    refine go_c (mid := 5133) (args := [.ref 0, .int s0]) (pc := 50) (L := [some (.ref 0), some (.int x1), some (.int x2), some (.int x3), some (.int x4), some (.int x5), some (.int x6), some (.int x7), some (.int s0)]) (st := []) (σ := σ) rfl ((fX0_refuse_ok _ _ q13 h14).deep (Nat.le_of_ble_eq_true rfl)) ?_
    refine go_n 1 (f := (85, [some (.ref 0), some (.int x1), some (.int x2), some (.int x3), some (.int x4), some (.int x5), some (.int x6), some (.int x7), some (.int s0)], [.int q13.1], q13.2)) rfl ?_
    refine go_e (L1 := [none, none, none, none, none, none, none, none, none]) rfl rfl ?_
    cases hf
    exact go_r rfl
def fX0_proxy_J22 (x1 : Int32) (x2 : Int32) (x3 : Int32) (x4 : Int32) (x5 : Int32) (x6 : Int32) (x7 : Int32)  (σ : Sg) : Option (Int32 × Sg) :=
  fX0_proxy_J37 x1 x2 x3 x4 x5 x6 x7 (-1)  σ
set_option maxHeartbeats 1500000 in
theorem fX0_proxy_J22_ok (x1 : Int32) (x2 : Int32) (x3 : Int32) (x4 : Int32) (x5 : Int32) (x6 : Int32) (x7 : Int32)  (σ : Sg)  (r : (Int32 × Sg)) (hf : fX0_proxy_J22 x1 x2 x3 x4 x5 x6 x7  σ = some r) : Go true 7 iX0_proxy (22, [some (.ref 0), some (.int x1), some (.int x2), some (.int x3), some (.int x4), some (.int x5), some (.int x6), some (.int x7), none], [], σ) (.inl (some (.int (r).1)), (r).2) := by
  unfold fX0_proxy_J22 at hf
  refine go_n 2 (f := (37, [some (.ref 0), some (.int x1), some (.int x2), some (.int x3), some (.int x4), some (.int x5), some (.int x6), some (.int x7), none], [.int (-1)], σ)) rfl ?_
  exact fX0_proxy_J37_ok _ _ _ _ _ _ _ _  _  _ hf
def fX0_proxy (x1 : Int32) (x2 : Int32) (x3 : Int32) (x4 : Int32) (x5 : Int32) (x6 : Int32) (x7 : Int32) (σ : Sg) : Option (Int32 × Sg) :=
  (fX0_in x5 0 3).bind fun q1 => if q1 = 0 then fX0_proxy_J22 x1 x2 x3 x4 x5 x6 x7  σ else (fX0_in x6 0 1000).bind fun q15 => if q15 ≠ 0 then (fX0_lacks x1 x2 x3 x4 x7 σ).bind fun q18 => fX0_proxy_J37 x1 x2 x3 x4 x5 x6 x7 q18  σ else fX0_proxy_J22 x1 x2 x3 x4 x5 x6 x7  σ
set_option maxHeartbeats 1500000 in
theorem fX0_proxy_ok (x1 : Int32) (x2 : Int32) (x3 : Int32) (x4 : Int32) (x5 : Int32) (x6 : Int32) (x7 : Int32) (σ : Sg) (r : (Int32 × Sg)) (hf : fX0_proxy x1 x2 x3 x4 x5 x6 x7 σ = some r) : Cl true 7 5151 [.ref 0, .int x1, .int x2, .int x3, .int x4, .int x5, .int x6, .int x7] σ (.inl (some (.int (r).1)), (r).2) := by
  refine ⟨iX0_proxy, rfl, Nat.le_of_ble_eq_true rfl, Nat.le_of_ble_eq_true rfl, ?_⟩
  show Go true 7 iX0_proxy (0, [some (.ref 0), some (.int x1), some (.int x2), some (.int x3), some (.int x4), some (.int x5), some (.int x6), some (.int x7), none], [], σ) (.inl (some (.int (r).1)), (r).2)
  unfold fX0_proxy at hf
  refine go_n 3 (f := (4, [some (.ref 0), some (.int x1), some (.int x2), some (.int x3), some (.int x4), some (.int x5), some (.int x6), some (.int x7), none], [.int 3, .int 0, .int x5], σ)) rfl ?_
  obtain ⟨q1, h2, hf⟩ := bnd hf
  refine go_c (mid := 5122) (args := [.int x5, .int 0, .int 3]) (pc := 7) (L := [some (.ref 0), some (.int x1), some (.int x2), some (.int x3), some (.int x4), some (.int x5), some (.int x6), some (.int x7), none]) (st := []) (σ := σ) rfl ((fX0_in_ok _ _ _ _ q1 h2).deep (Nat.le_of_ble_eq_true rfl)) ?_
  by_cases h3 : q1 = 0
  · rw [if_pos h3] at hf
    refine go_it (t := 22) (f := 10) (L1 := [some (.ref 0), some (.int x1), some (.int x2), some (.int x3), some (.int x4), some (.int x5), some (.int x6), some (.int x7), none]) (st1 := []) (σ1 := σ) rfl h3 ?_
    exact fX0_proxy_J22_ok _ _ _ _ _ _ _  _  _ hf
  · rw [if_neg h3] at hf
    refine go_if (t := 22) (f := 10) (L1 := [some (.ref 0), some (.int x1), some (.int x2), some (.int x3), some (.int x4), some (.int x5), some (.int x6), some (.int x7), none]) (st1 := []) (σ1 := σ) rfl h3 ?_
    refine go_n 3 (f := (16, [some (.ref 0), some (.int x1), some (.int x2), some (.int x3), some (.int x4), some (.int x5), some (.int x6), some (.int x7), none], [.int 1000, .int 0, .int x6], σ)) rfl ?_
    obtain ⟨q15, h16, hf⟩ := bnd hf
    refine go_c (mid := 5122) (args := [.int x6, .int 0, .int 1000]) (pc := 19) (L := [some (.ref 0), some (.int x1), some (.int x2), some (.int x3), some (.int x4), some (.int x5), some (.int x6), some (.int x7), none]) (st := []) (σ := σ) rfl ((fX0_in_ok _ _ _ _ q15 h16).deep (Nat.le_of_ble_eq_true rfl)) ?_
    by_cases h17 : q15 ≠ 0
    · rw [if_pos h17] at hf
      refine go_it (t := 26) (f := 22) (L1 := [some (.ref 0), some (.int x1), some (.int x2), some (.int x3), some (.int x4), some (.int x5), some (.int x6), some (.int x7), none]) (st1 := []) (σ1 := σ) rfl h17 ?_
      refine go_n 6 (f := (34, [some (.ref 0), some (.int x1), some (.int x2), some (.int x3), some (.int x4), some (.int x5), some (.int x6), some (.int x7), none], [.int x7, .int x4, .int x3, .int x2, .int x1, .ref 0], σ)) rfl ?_
      obtain ⟨q18, h19, hf⟩ := bnd hf
      refine go_c (mid := 5146) (args := [.ref 0, .int x1, .int x2, .int x3, .int x4, .int x7]) (pc := 37) (L := [some (.ref 0), some (.int x1), some (.int x2), some (.int x3), some (.int x4), some (.int x5), some (.int x6), some (.int x7), none]) (st := []) (σ := σ) rfl ((fX0_lacks_ok _ _ _ _ _ _ q18 h19).deep (Nat.le_of_ble_eq_true rfl)) ?_
      exact fX0_proxy_J37_ok _ _ _ _ _ _ _ _  _  _ hf
    · rw [if_neg h17] at hf
      refine go_if (t := 26) (f := 22) (L1 := [some (.ref 0), some (.int x1), some (.int x2), some (.int x3), some (.int x4), some (.int x5), some (.int x6), some (.int x7), none]) (st1 := []) (σ1 := σ) rfl h17 ?_
      exact fX0_proxy_J22_ok _ _ _ _ _ _ _  _  _ hf
/-! OldWeather.copy(IIIIII)I -/
def fX0_copy_J43 (x1 : Int32) (x2 : Int32) (x3 : Int32) (x4 : Int32) (x5 : Int32) (x6 : Int32) (x7 : Int32)  (σ : Sg) : Option (Int32 × Sg) :=
  if 0 ≤ x7 then (am_new σ (21, 0) 7).bind fun σ10 => (fJ2_size 2 σ10).bind fun q11 => (fX13_init (gz σ) q11 x1 x2 x3 x4 x6 x5 σ10).bind fun q13 => (fX0_puts (gz σ) 0 q13).bind fun q15 => some (q15.1, q15.2) else (fX0_refuse x7 σ).bind fun q17 => some (q17.1, q17.2)
set_option maxHeartbeats 1500000 in
theorem fX0_copy_J43_ok (x1 : Int32) (x2 : Int32) (x3 : Int32) (x4 : Int32) (x5 : Int32) (x6 : Int32) (x7 : Int32)  (σ : Sg)  (r : (Int32 × Sg)) (hf : fX0_copy_J43 x1 x2 x3 x4 x5 x6 x7  σ = some r) : Go true 7 iX0_copy (43, [some (.ref 0), some (.int x1), some (.int x2), some (.int x3), some (.int x4), some (.int x5), some (.int x6), some (.int x7)], [], σ) (.inl (some (.int (r).1)), (r).2) := by
  unfold fX0_copy_J43 at hf
  refine go_n 1 (f := (45, [some (.ref 0), some (.int x1), some (.int x2), some (.int x3), some (.int x4), some (.int x5), some (.int x6), some (.int x7)], [.int x7], σ)) rfl ?_
  by_cases h8 : 0 ≤ x7
  · rw [if_pos h8] at hf
    refine go_it (t := 57) (f := 48) (L1 := [some (.ref 0), some (.int x1), some (.int x2), some (.int x3), some (.int x4), some (.int x5), some (.int x6), some (.int x7)]) (st1 := []) (σ1 := σ) rfl h8 ?_
    refine go_n 1 (f := (58, [some (.ref 0), some (.int x1), some (.int x2), some (.int x3), some (.int x4), some (.int x5), some (.int x6), some (.int x7)], [.ref 0], σ)) rfl ?_
    obtain ⟨σ10, h9, hf⟩ := bnd hf
    refine go_new rfl rfl rfl h9 ?_
    refine go_n 4 (f := (69, [some (.ref 0), some (.int x1), some (.int x2), some (.int x3), some (.int x4), some (.int x5), some (.int x6), some (.int x7)], [.ref 2, .ref (gz σ), .ref (gz σ), .ref 0], σ10)) rfl ?_
    obtain ⟨q11, h12, hf⟩ := bnd hf
    refine go_c (mid := 2821) (args := [.ref 2]) (pc := 72) (L := [some (.ref 0), some (.int x1), some (.int x2), some (.int x3), some (.int x4), some (.int x5), some (.int x6), some (.int x7)]) (st := [.ref (gz σ), .ref (gz σ), .ref 0]) (σ := σ10) rfl ((fJ2_size_ok _ _ q11 h12).deep (Nat.le_of_ble_eq_true rfl)) ?_
    refine go_n 6 (f := (81, [some (.ref 0), some (.int x1), some (.int x2), some (.int x3), some (.int x4), some (.int x5), some (.int x6), some (.int x7)], [.int x5, .int x6, .int x4, .int x3, .int x2, .int x1, .int q11, .ref (gz σ), .ref (gz σ), .ref 0], σ10)) rfl ?_
    obtain ⟨q13, h14, hf⟩ := bnd hf
    refine go_c (mid := 6400) (args := [.ref (gz σ), .int q11, .int x1, .int x2, .int x3, .int x4, .int x6, .int x5]) (pc := 84) (L := [some (.ref 0), some (.int x1), some (.int x2), some (.int x3), some (.int x4), some (.int x5), some (.int x6), some (.int x7)]) (st := [.ref (gz σ), .ref 0]) (σ := σ10) rfl ((fX13_init_ok _ _ _ _ _ _ _ _ _ q13 h14).deep (Nat.le_of_ble_eq_true rfl)) ?_
    refine go_n 1 (f := (85, [some (.ref 0), some (.int x1), some (.int x2), some (.int x3), some (.int x4), some (.int x5), some (.int x6), some (.int x7)], [.int 0, .ref (gz σ), .ref 0], q13)) rfl ?_
    obtain ⟨q15, h16, hf⟩ := bnd hf
    refine go_c (mid := 5148) (args := [.ref 0, .ref (gz σ), .int 0]) (pc := 88) (L := [some (.ref 0), some (.int x1), some (.int x2), some (.int x3), some (.int x4), some (.int x5), some (.int x6), some (.int x7)]) (st := []) (σ := q13) rfl ((fX0_puts_ok _ _ _ q15 h16).deep (Nat.le_of_ble_eq_true rfl)) ?_
    refine go_e (L1 := [none, none, none, none, none, none, none, none]) rfl rfl ?_
    cases hf
    exact go_r rfl
  · rw [if_neg h8] at hf
    refine go_if (t := 57) (f := 48) (L1 := [some (.ref 0), some (.int x1), some (.int x2), some (.int x3), some (.int x4), some (.int x5), some (.int x6), some (.int x7)]) (st1 := []) (σ1 := σ) rfl h8 ?_
    refine go_n 2 (f := (51, [some (.ref 0), some (.int x1), some (.int x2), some (.int x3), some (.int x4), some (.int x5), some (.int x6), some (.int x7)], [.int x7, .ref 0], σ)) rfl ?_
    obtain ⟨q17, h18, hf⟩ := bnd hf
    refine go_c (mid := 5133) (args := [.ref 0, .int x7]) (pc := 54) (L := [some (.ref 0), some (.int x1), some (.int x2), some (.int x3), some (.int x4), some (.int x5), some (.int x6), some (.int x7)]) (st := []) (σ := σ) rfl ((fX0_refuse_ok _ _ q17 h18).deep (Nat.le_of_ble_eq_true rfl)) ?_
    refine go_n 1 (f := (88, [some (.ref 0), some (.int x1), some (.int x2), some (.int x3), some (.int x4), some (.int x5), some (.int x6), some (.int x7)], [.int q17.1], q17.2)) rfl ?_
    refine go_e (L1 := [none, none, none, none, none, none, none, none]) rfl rfl ?_
    cases hf
    exact go_r rfl
def fX0_copy_J25 (x1 : Int32) (x2 : Int32) (x3 : Int32) (x4 : Int32) (x5 : Int32) (x6 : Int32) (x7 : Int32)  (σ : Sg) : Option (Int32 × Sg) :=
  (fX0_isReading x5 σ).bind fun q4 => ((fun (z7 : Int32) => fX0_copy_J43 x1 x2 x3 x4 x5 x6 z7  σ) (if q4 = 0 then (-2) else x7))
set_option maxHeartbeats 1500000 in
theorem fX0_copy_J25_ok (x1 : Int32) (x2 : Int32) (x3 : Int32) (x4 : Int32) (x5 : Int32) (x6 : Int32) (x7 : Int32)  (σ : Sg)  (r : (Int32 × Sg)) (hf : fX0_copy_J25 x1 x2 x3 x4 x5 x6 x7  σ = some r) : Go true 7 iX0_copy (25, [some (.ref 0), some (.int x1), some (.int x2), some (.int x3), some (.int x4), some (.int x5), some (.int x6), some (.int x7)], [], σ) (.inl (some (.int (r).1)), (r).2) := by
  unfold fX0_copy_J25 at hf
  refine go_n 2 (f := (28, [some (.ref 0), some (.int x1), some (.int x2), some (.int x3), some (.int x4), some (.int x5), some (.int x6), some (.int x7)], [.int x5, .ref 0], σ)) rfl ?_
  obtain ⟨q4, h5, hf⟩ := bnd hf
  refine go_c (mid := 5153) (args := [.ref 0, .int x5]) (pc := 31) (L := [some (.ref 0), some (.int x1), some (.int x2), some (.int x3), some (.int x4), some (.int x5), some (.int x6), some (.int x7)]) (st := []) (σ := σ) rfl ((fX0_isReading_ok _ _ q4 h5).deep (Nat.le_of_ble_eq_true rfl)) ?_
  refine go_m (f := (41, [some (.ref 0), some (.int x1), some (.int x2), some (.int x3), some (.int x4), some (.int x5), some (.int x6), none], [.int (if q4 = 0 then (-2) else x7)], σ)) ?_ (fun hJ19 => ?_)
  · generalize hz7 : (if q4 = 0 then (-2) else x7) = z7 at hf ⊢
    try dsimp only at hf
    refine go_n 1 (f := (43, [some (.ref 0), some (.int x1), some (.int x2), some (.int x3), some (.int x4), some (.int x5), some (.int x6), some (.int z7)], [], σ)) rfl ?_
    exact fX0_copy_J43_ok _ _ _ _ _ _ _  _  _ hf
  · by_cases h6 : q4 = 0
    · refine go_it (t := 39) (f := 34) (L1 := [some (.ref 0), some (.int x1), some (.int x2), some (.int x3), some (.int x4), some (.int x5), some (.int x6), some (.int x7)]) (st1 := []) (σ1 := σ) rfl h6 ?_
      refine go_n 1 (f := (41, [some (.ref 0), some (.int x1), some (.int x2), some (.int x3), some (.int x4), some (.int x5), some (.int x6), some (.int x7)], [.int (-2)], σ)) rfl ?_
      refine go_e (L1 := [some (.ref 0), some (.int x1), some (.int x2), some (.int x3), some (.int x4), some (.int x5), some (.int x6), none]) rfl rfl ?_
      simp only [if_pos h6] at hJ19
      first | exact hJ19 | (simp only [if_pos h6]; exact hJ19)
    · refine go_if (t := 39) (f := 34) (L1 := [some (.ref 0), some (.int x1), some (.int x2), some (.int x3), some (.int x4), some (.int x5), some (.int x6), some (.int x7)]) (st1 := []) (σ1 := σ) rfl h6 ?_
      refine go_n 2 (f := (41, [some (.ref 0), some (.int x1), some (.int x2), some (.int x3), some (.int x4), some (.int x5), some (.int x6), some (.int x7)], [.int x7], σ)) rfl ?_
      refine go_e (L1 := [some (.ref 0), some (.int x1), some (.int x2), some (.int x3), some (.int x4), some (.int x5), some (.int x6), none]) rfl rfl ?_
      simp only [if_neg h6] at hJ19
      first | exact hJ19 | (simp only [if_neg h6]; exact hJ19)
def fX0_copy (x1 : Int32) (x2 : Int32) (x3 : Int32) (x4 : Int32) (x5 : Int32) (x6 : Int32) (σ : Sg) : Option (Int32 × Sg) :=
  (fX0_lacks x1 x2 x3 x4 x6 σ).bind fun q1 => if q1 = 0 then fX0_copy_J25 x1 x2 x3 x4 x5 x6 q1  σ else if q1 ≠ (-5) then fX0_copy_J43 x1 x2 x3 x4 x5 x6 q1  σ else fX0_copy_J25 x1 x2 x3 x4 x5 x6 q1  σ
set_option maxHeartbeats 1500000 in
theorem fX0_copy_ok (x1 : Int32) (x2 : Int32) (x3 : Int32) (x4 : Int32) (x5 : Int32) (x6 : Int32) (σ : Sg) (r : (Int32 × Sg)) (hf : fX0_copy x1 x2 x3 x4 x5 x6 σ = some r) : Cl true 7 5152 [.ref 0, .int x1, .int x2, .int x3, .int x4, .int x5, .int x6] σ (.inl (some (.int (r).1)), (r).2) := by
  refine ⟨iX0_copy, rfl, Nat.le_of_ble_eq_true rfl, Nat.le_of_ble_eq_true rfl, ?_⟩
  show Go true 7 iX0_copy (0, [some (.ref 0), some (.int x1), some (.int x2), some (.int x3), some (.int x4), some (.int x5), some (.int x6), none], [], σ) (.inl (some (.int (r).1)), (r).2)
  unfold fX0_copy at hf
  refine go_n 6 (f := (8, [some (.ref 0), some (.int x1), some (.int x2), some (.int x3), some (.int x4), some (.int x5), some (.int x6), none], [.int x6, .int x4, .int x3, .int x2, .int x1, .ref 0], σ)) rfl ?_
  obtain ⟨q1, h2, hf⟩ := bnd hf
  refine go_c (mid := 5146) (args := [.ref 0, .int x1, .int x2, .int x3, .int x4, .int x6]) (pc := 11) (L := [some (.ref 0), some (.int x1), some (.int x2), some (.int x3), some (.int x4), some (.int x5), some (.int x6), none]) (st := []) (σ := σ) rfl ((fX0_lacks_ok _ _ _ _ _ _ q1 h2).deep (Nat.le_of_ble_eq_true rfl)) ?_
  refine go_n 2 (f := (15, [some (.ref 0), some (.int x1), some (.int x2), some (.int x3), some (.int x4), some (.int x5), some (.int x6), some (.int q1)], [.int q1], σ)) rfl ?_
  by_cases h3 : q1 = 0
  · rw [if_pos h3] at hf
    refine go_it (t := 25) (f := 18) (L1 := [some (.ref 0), some (.int x1), some (.int x2), some (.int x3), some (.int x4), some (.int x5), some (.int x6), some (.int q1)]) (st1 := []) (σ1 := σ) rfl h3 ?_
    exact fX0_copy_J25_ok _ _ _ _ _ _ _  _  _ hf
  · rw [if_neg h3] at hf
    refine go_if (t := 25) (f := 18) (L1 := [some (.ref 0), some (.int x1), some (.int x2), some (.int x3), some (.int x4), some (.int x5), some (.int x6), some (.int q1)]) (st1 := []) (σ1 := σ) rfl h3 ?_
    refine go_n 2 (f := (22, [some (.ref 0), some (.int x1), some (.int x2), some (.int x3), some (.int x4), some (.int x5), some (.int x6), some (.int q1)], [.int (-5), .int q1], σ)) rfl ?_
    by_cases h20 : q1 ≠ (-5)
    · rw [if_pos h20] at hf
      refine go_it (t := 43) (f := 25) (L1 := [some (.ref 0), some (.int x1), some (.int x2), some (.int x3), some (.int x4), some (.int x5), some (.int x6), some (.int q1)]) (st1 := []) (σ1 := σ) rfl h20 ?_
      exact fX0_copy_J43_ok _ _ _ _ _ _ _  _  _ hf
    · rw [if_neg h20] at hf
      refine go_if (t := 43) (f := 25) (L1 := [some (.ref 0), some (.int x1), some (.int x2), some (.int x3), some (.int x4), some (.int x5), some (.int x6), some (.int q1)]) (st1 := []) (σ1 := σ) rfl h20 ?_
      exact fX0_copy_J25_ok _ _ _ _ _ _ _  _  _ hf
/-! OldWeather.keeps(IIIIII)I -/
def fX0_keeps (x1 : Int32) (x2 : Int32) (x3 : Int32) (x4 : Int32) (x5 : Int32) (x6 : Int32) (σ : Sg) : Option (Int32 × Sg) :=
  if x6 ≠ (-100000) then (am_new σ (18, 0) 6).bind fun σ3 => (fJ2_size 2 σ3).bind fun q4 => (fX10_init (gz σ) q4 x1 x2 x3 x4 x5 σ3).bind fun q6 => (fX0_puts (gz σ) x6 q6).bind fun q8 => some (1, q8.2) else some (0, σ)
set_option maxHeartbeats 1500000 in
theorem fX0_keeps_ok (x1 : Int32) (x2 : Int32) (x3 : Int32) (x4 : Int32) (x5 : Int32) (x6 : Int32) (σ : Sg) (r : (Int32 × Sg)) (hf : fX0_keeps x1 x2 x3 x4 x5 x6 σ = some r) : Cl true 7 5157 [.ref 0, .int x1, .int x2, .int x3, .int x4, .int x5, .int x6] σ (.inl (some (.int (r).1)), (r).2) := by
  refine ⟨iX0_keeps, rfl, Nat.le_of_ble_eq_true rfl, Nat.le_of_ble_eq_true rfl, ?_⟩
  show Go true 7 iX0_keeps (0, [some (.ref 0), some (.int x1), some (.int x2), some (.int x3), some (.int x4), some (.int x5), some (.int x6)], [], σ) (.inl (some (.int (r).1)), (r).2)
  unfold fX0_keeps at hf
  refine go_n 2 (f := (5, [some (.ref 0), some (.int x1), some (.int x2), some (.int x3), some (.int x4), some (.int x5), some (.int x6)], [.int (-100000), .int x6], σ)) rfl ?_
  by_cases h1 : x6 ≠ (-100000)
  · rw [if_pos h1] at hf
    refine go_it (t := 10) (f := 8) (L1 := [some (.ref 0), some (.int x1), some (.int x2), some (.int x3), some (.int x4), some (.int x5), some (.int x6)]) (st1 := []) (σ1 := σ) rfl h1 ?_
    refine go_n 1 (f := (11, [some (.ref 0), some (.int x1), some (.int x2), some (.int x3), some (.int x4), some (.int x5), some (.int x6)], [.ref 0], σ)) rfl ?_
    obtain ⟨σ3, h2, hf⟩ := bnd hf
    refine go_new rfl rfl rfl h2 ?_
    refine go_n 4 (f := (22, [some (.ref 0), some (.int x1), some (.int x2), some (.int x3), some (.int x4), some (.int x5), some (.int x6)], [.ref 2, .ref (gz σ), .ref (gz σ), .ref 0], σ3)) rfl ?_
    obtain ⟨q4, h5, hf⟩ := bnd hf
    refine go_c (mid := 2821) (args := [.ref 2]) (pc := 25) (L := [some (.ref 0), some (.int x1), some (.int x2), some (.int x3), some (.int x4), some (.int x5), some (.int x6)]) (st := [.ref (gz σ), .ref (gz σ), .ref 0]) (σ := σ3) rfl ((fJ2_size_ok _ _ q4 h5).deep (Nat.le_of_ble_eq_true rfl)) ?_
    refine go_n 5 (f := (32, [some (.ref 0), some (.int x1), some (.int x2), some (.int x3), some (.int x4), some (.int x5), some (.int x6)], [.int x5, .int x4, .int x3, .int x2, .int x1, .int q4, .ref (gz σ), .ref (gz σ), .ref 0], σ3)) rfl ?_
    obtain ⟨q6, h7, hf⟩ := bnd hf
    refine go_c (mid := 5632) (args := [.ref (gz σ), .int q4, .int x1, .int x2, .int x3, .int x4, .int x5]) (pc := 35) (L := [some (.ref 0), some (.int x1), some (.int x2), some (.int x3), some (.int x4), some (.int x5), some (.int x6)]) (st := [.ref (gz σ), .ref 0]) (σ := σ3) rfl ((fX10_init_ok _ _ _ _ _ _ _ _ q6 h7).deep (Nat.le_of_ble_eq_true rfl)) ?_
    refine go_n 1 (f := (37, [some (.ref 0), some (.int x1), some (.int x2), some (.int x3), some (.int x4), some (.int x5), some (.int x6)], [.int x6, .ref (gz σ), .ref 0], q6)) rfl ?_
    obtain ⟨q8, h9, hf⟩ := bnd hf
    refine go_c (mid := 5148) (args := [.ref 0, .ref (gz σ), .int x6]) (pc := 40) (L := [some (.ref 0), some (.int x1), some (.int x2), some (.int x3), some (.int x4), some (.int x5), some (.int x6)]) (st := []) (σ := q6) rfl ((fX0_puts_ok _ _ _ q8 h9).deep (Nat.le_of_ble_eq_true rfl)) ?_
    refine go_n 2 (f := (42, [some (.ref 0), some (.int x1), some (.int x2), some (.int x3), some (.int x4), some (.int x5), some (.int x6)], [.int 1], q8.2)) rfl ?_
    cases hf
    exact go_r rfl
  · rw [if_neg h1] at hf
    refine go_if (t := 10) (f := 8) (L1 := [some (.ref 0), some (.int x1), some (.int x2), some (.int x3), some (.int x4), some (.int x5), some (.int x6)]) (st1 := []) (σ1 := σ) rfl h1 ?_
    refine go_n 1 (f := (9, [some (.ref 0), some (.int x1), some (.int x2), some (.int x3), some (.int x4), some (.int x5), some (.int x6)], [.int 0], σ)) rfl ?_
    cases hf
    exact go_r rfl
/-! OldWeather.slip(III)I -/
def fX0_slip_J29   (σ : Sg) : Option (Int32 × Sg) :=
  (fX0_refuse (-2) σ).bind fun q7 => some (q7.1, q7.2)
set_option maxHeartbeats 1500000 in
theorem fX0_slip_J29_ok   (σ : Sg)  (r : (Int32 × Sg)) (hf : fX0_slip_J29   σ = some r) : Go true 6 iX0_slip (29, [some (.ref 0), none, none, none], [], σ) (.inl (some (.int (r).1)), (r).2) := by
  unfold fX0_slip_J29 at hf
  refine go_n 2 (f := (32, [some (.ref 0), none, none, none], [.int (-2), .ref 0], σ)) rfl ?_
  obtain ⟨q7, h8, hf⟩ := bnd hf
  refine go_c (mid := 5133) (args := [.ref 0, .int (-2)]) (pc := 35) (L := [some (.ref 0), none, none, none]) (st := []) (σ := σ) rfl ((fX0_refuse_ok _ _ q7 h8).deep (Nat.le_of_ble_eq_true rfl)) ?_
  cases hf
  exact go_r rfl
def fX0_slip (x1 : Int32) (x2 : Int32) (x3 : Int32) (σ : Sg) : Option (Int32 × Sg) :=
  (fX0_isDesk x3).bind fun q1 => if q1 ≠ 0 then (fX0_isSource x1 σ).bind fun q4 => if q4 = 0 then fX0_slip_J29   σ else (fX0_isSource x2 σ).bind fun q9 => if q9 ≠ 0 then if x1 ≠ x2 then (fJ2_size 6 σ).bind fun q13 => if q13 ≠ 60 then (am_new σ (35, 0) 5).bind fun σ17 => (fX28_init (gz σ) x1 x2 x3 0 0 σ17).bind fun q18 => (fJ2_add 6 (gz σ) q18).bind fun q20 => (fJ2_size 6 q20.2).bind fun q22 => (fX0_told q22 q20.2).bind fun q24 => some (q24.1, q24.2) else (fX0_refuse (-5) σ).bind fun q26 => some (q26.1, q26.2) else (fX0_refuse (-3) σ).bind fun q28 => some (q28.1, q28.2) else fX0_slip_J29   σ else (fX0_refuse (-1) σ).bind fun q30 => some (q30.1, q30.2)
set_option maxHeartbeats 1500000 in
theorem fX0_slip_ok (x1 : Int32) (x2 : Int32) (x3 : Int32) (σ : Sg) (r : (Int32 × Sg)) (hf : fX0_slip x1 x2 x3 σ = some r) : Cl true 6 5179 [.ref 0, .int x1, .int x2, .int x3] σ (.inl (some (.int (r).1)), (r).2) := by
  refine ⟨iX0_slip, rfl, Nat.le_of_ble_eq_true rfl, Nat.le_of_ble_eq_true rfl, ?_⟩
  show Go true 6 iX0_slip (0, [some (.ref 0), some (.int x1), some (.int x2), some (.int x3)], [], σ) (.inl (some (.int (r).1)), (r).2)
  unfold fX0_slip at hf
  refine go_n 1 (f := (1, [some (.ref 0), some (.int x1), some (.int x2), some (.int x3)], [.int x3], σ)) rfl ?_
  obtain ⟨q1, h2, hf⟩ := bnd hf
  refine go_c (mid := 5147) (args := [.int x3]) (pc := 4) (L := [some (.ref 0), some (.int x1), some (.int x2), some (.int x3)]) (st := []) (σ := σ) rfl ((fX0_isDesk_ok _ _ q1 h2).deep (Nat.le_of_ble_eq_true rfl)) ?_
  by_cases h3 : q1 ≠ 0
  · rw [if_pos h3] at hf
    refine go_it (t := 13) (f := 7) (L1 := [some (.ref 0), some (.int x1), some (.int x2), some (.int x3)]) (st1 := []) (σ1 := σ) rfl h3 ?_
    refine go_n 2 (f := (15, [some (.ref 0), some (.int x1), some (.int x2), some (.int x3)], [.int x1, .ref 0], σ)) rfl ?_
    obtain ⟨q4, h5, hf⟩ := bnd hf
    refine go_c (mid := 5143) (args := [.ref 0, .int x1]) (pc := 18) (L := [some (.ref 0), some (.int x1), some (.int x2), some (.int x3)]) (st := []) (σ := σ) rfl ((fX0_isSource_ok _ _ q4 h5).deep (Nat.le_of_ble_eq_true rfl)) ?_
    by_cases h6 : q4 = 0
    · rw [if_pos h6] at hf
      refine go_it (t := 29) (f := 21) (L1 := [some (.ref 0), some (.int x1), some (.int x2), some (.int x3)]) (st1 := []) (σ1 := σ) rfl h6 ?_
      refine go_e (L1 := [some (.ref 0), none, none, none]) rfl rfl ?_
      exact fX0_slip_J29_ok   _  _ hf
    · rw [if_neg h6] at hf
      refine go_if (t := 29) (f := 21) (L1 := [some (.ref 0), some (.int x1), some (.int x2), some (.int x3)]) (st1 := []) (σ1 := σ) rfl h6 ?_
      refine go_n 2 (f := (23, [some (.ref 0), some (.int x1), some (.int x2), some (.int x3)], [.int x2, .ref 0], σ)) rfl ?_
      obtain ⟨q9, h10, hf⟩ := bnd hf
      refine go_c (mid := 5143) (args := [.ref 0, .int x2]) (pc := 26) (L := [some (.ref 0), some (.int x1), some (.int x2), some (.int x3)]) (st := []) (σ := σ) rfl ((fX0_isSource_ok _ _ q9 h10).deep (Nat.le_of_ble_eq_true rfl)) ?_
      by_cases h11 : q9 ≠ 0
      · rw [if_pos h11] at hf
        refine go_it (t := 36) (f := 29) (L1 := [some (.ref 0), some (.int x1), some (.int x2), some (.int x3)]) (st1 := []) (σ1 := σ) rfl h11 ?_
        refine go_n 2 (f := (38, [some (.ref 0), some (.int x1), some (.int x2), some (.int x3)], [.int x2, .int x1], σ)) rfl ?_
        by_cases h12 : x1 ≠ x2
        · rw [if_pos h12] at hf
          refine go_it (t := 48) (f := 41) (L1 := [some (.ref 0), some (.int x1), some (.int x2), some (.int x3)]) (st1 := []) (σ1 := σ) rfl h12 ?_
          refine go_n 3 (f := (55, [some (.ref 0), some (.int x1), some (.int x2), some (.int x3)], [.ref 6], σ)) rfl ?_
          obtain ⟨q13, h14, hf⟩ := bnd hf
          refine go_c (mid := 2821) (args := [.ref 6]) (pc := 58) (L := [some (.ref 0), some (.int x1), some (.int x2), some (.int x3)]) (st := []) (σ := σ) rfl ((fJ2_size_ok _ _ q13 h14).deep (Nat.le_of_ble_eq_true rfl)) ?_
          refine go_n 1 (f := (60, [some (.ref 0), some (.int x1), some (.int x2), some (.int x3)], [.int 60, .int q13], σ)) rfl ?_
          by_cases h15 : q13 ≠ 60
          · rw [if_pos h15] at hf
            refine go_it (t := 70) (f := 63) (L1 := [some (.ref 0), some (.int x1), some (.int x2), some (.int x3)]) (st1 := []) (σ1 := σ) rfl h15 ?_
            refine go_n 3 (f := (77, [some (.ref 0), some (.int x1), some (.int x2), some (.int x3)], [.ref 6], σ)) rfl ?_
            obtain ⟨σ17, h16, hf⟩ := bnd hf
            refine go_new rfl rfl rfl h16 ?_
            refine go_n 6 (f := (86, [some (.ref 0), some (.int x1), some (.int x2), some (.int x3)], [.int 0, .int 0, .int x3, .int x2, .int x1, .ref (gz σ), .ref (gz σ), .ref 6], σ17)) rfl ?_
            obtain ⟨q18, h19, hf⟩ := bnd hf
            refine go_c (mid := 10496) (args := [.ref (gz σ), .int x1, .int x2, .int x3, .int 0, .int 0]) (pc := 89) (L := [some (.ref 0), some (.int x1), some (.int x2), some (.int x3)]) (st := [.ref (gz σ), .ref 6]) (σ := σ17) rfl ((fX28_init_ok _ _ _ _ _ _ _ q18 h19).deep (Nat.le_of_ble_eq_true rfl)) ?_
            obtain ⟨q20, h21, hf⟩ := bnd hf
            refine go_c (mid := 2822) (args := [.ref 6, .ref (gz σ)]) (pc := 92) (L := [some (.ref 0), some (.int x1), some (.int x2), some (.int x3)]) (st := []) (σ := q18) rfl ((fJ2_add_ok _ _ _ q20 h21).deep (Nat.le_of_ble_eq_true rfl)) ?_
            refine go_n 5 (f := (101, [some (.ref 0), some (.int x1), some (.int x2), some (.int x3)], [.ref 6, .ref 0], q20.2)) rfl ?_
            obtain ⟨q22, h23, hf⟩ := bnd hf
            refine go_c (mid := 2821) (args := [.ref 6]) (pc := 104) (L := [some (.ref 0), some (.int x1), some (.int x2), some (.int x3)]) (st := [.ref 0]) (σ := q20.2) rfl ((fJ2_size_ok _ _ q22 h23).deep (Nat.le_of_ble_eq_true rfl)) ?_
            obtain ⟨q24, h25, hf⟩ := bnd hf
            refine go_c (mid := 5136) (args := [.ref 0, .int q22]) (pc := 107) (L := [some (.ref 0), some (.int x1), some (.int x2), some (.int x3)]) (st := []) (σ := q20.2) rfl ((fX0_told_ok _ _ q24 h25).deep (Nat.le_of_ble_eq_true rfl)) ?_
            cases hf
            exact go_r rfl
          · rw [if_neg h15] at hf
            refine go_if (t := 70) (f := 63) (L1 := [some (.ref 0), some (.int x1), some (.int x2), some (.int x3)]) (st1 := []) (σ1 := σ) rfl h15 ?_
            refine go_n 2 (f := (66, [some (.ref 0), some (.int x1), some (.int x2), some (.int x3)], [.int (-5), .ref 0], σ)) rfl ?_
            obtain ⟨q26, h27, hf⟩ := bnd hf
            refine go_c (mid := 5133) (args := [.ref 0, .int (-5)]) (pc := 69) (L := [some (.ref 0), some (.int x1), some (.int x2), some (.int x3)]) (st := []) (σ := σ) rfl ((fX0_refuse_ok _ _ q26 h27).deep (Nat.le_of_ble_eq_true rfl)) ?_
            cases hf
            exact go_r rfl
        · rw [if_neg h12] at hf
          refine go_if (t := 48) (f := 41) (L1 := [some (.ref 0), some (.int x1), some (.int x2), some (.int x3)]) (st1 := []) (σ1 := σ) rfl h12 ?_
          refine go_n 2 (f := (44, [some (.ref 0), some (.int x1), some (.int x2), some (.int x3)], [.int (-3), .ref 0], σ)) rfl ?_
          obtain ⟨q28, h29, hf⟩ := bnd hf
          refine go_c (mid := 5133) (args := [.ref 0, .int (-3)]) (pc := 47) (L := [some (.ref 0), some (.int x1), some (.int x2), some (.int x3)]) (st := []) (σ := σ) rfl ((fX0_refuse_ok _ _ q28 h29).deep (Nat.le_of_ble_eq_true rfl)) ?_
          cases hf
          exact go_r rfl
      · rw [if_neg h11] at hf
        refine go_if (t := 36) (f := 29) (L1 := [some (.ref 0), some (.int x1), some (.int x2), some (.int x3)]) (st1 := []) (σ1 := σ) rfl h11 ?_
        refine go_e (L1 := [some (.ref 0), none, none, none]) rfl rfl ?_
        exact fX0_slip_J29_ok   _  _ hf
  · rw [if_neg h3] at hf
    refine go_if (t := 13) (f := 7) (L1 := [some (.ref 0), some (.int x1), some (.int x2), some (.int x3)]) (st1 := []) (σ1 := σ) rfl h3 ?_
    refine go_n 2 (f := (9, [some (.ref 0), some (.int x1), some (.int x2), some (.int x3)], [.int (-1), .ref 0], σ)) rfl ?_
    obtain ⟨q30, h31, hf⟩ := bnd hf
    refine go_c (mid := 5133) (args := [.ref 0, .int (-1)]) (pc := 12) (L := [some (.ref 0), some (.int x1), some (.int x2), some (.int x3)]) (st := []) (σ := σ) rfl ((fX0_refuse_ok _ _ q30 h31).deep (Nat.le_of_ble_eq_true rfl)) ?_
    cases hf
    exact go_r rfl
/-! OldWeather.offer(IIIII)I -/
def fX0_offer_J49   (σ : Sg) : Option (Int32 × Sg) :=
  (fX0_refuse (-1) σ).bind fun q4 => some (q4.1, q4.2)
set_option maxHeartbeats 1500000 in
theorem fX0_offer_J49_ok   (σ : Sg)  (r : (Int32 × Sg)) (hf : fX0_offer_J49   σ = some r) : Go true 6 iX0_offer (49, [some (.ref 0), none, none, none, none, none], [], σ) (.inl (some (.int (r).1)), (r).2) := by
  unfold fX0_offer_J49 at hf
  refine go_n 2 (f := (51, [some (.ref 0), none, none, none, none, none], [.int (-1), .ref 0], σ)) rfl ?_
  obtain ⟨q4, h5, hf⟩ := bnd hf
  refine go_c (mid := 5133) (args := [.ref 0, .int (-1)]) (pc := 54) (L := [some (.ref 0), none, none, none, none, none]) (st := []) (σ := σ) rfl ((fX0_refuse_ok _ _ q4 h5).deep (Nat.le_of_ble_eq_true rfl)) ?_
  cases hf
  exact go_r rfl
def fX0_offer (x1 : Int32) (x2 : Int32) (x3 : Int32) (x4 : Int32) (x5 : Int32) (σ : Sg) : Option (Int32 × Sg) :=
  (fX0_isDay x2).bind fun q1 => if q1 = 0 then fX0_offer_J49   σ else (fX0_in x3 x2 109999).bind fun q6 => if q6 = 0 then fX0_offer_J49   σ else if 199 < (x3 - x2) then fX0_offer_J49   σ else (fX0_in x4 0 2000).bind fun q10 => if q10 = 0 then fX0_offer_J49   σ else (fX0_in x5 1 100).bind fun q13 => if q13 ≠ 0 then (fX0_isPlace x1 σ).bind fun q16 => if q16 ≠ 0 then (fJ2_size 8 σ).bind fun q19 => if q19 ≠ 10 then (am_new σ (35, 0) 5).bind fun σ23 => (fX28_init (gz σ) x1 x2 x3 x4 x5 σ23).bind fun q24 => (fJ2_add 8 (gz σ) q24).bind fun q26 => (fJ2_size 8 q26.2).bind fun q28 => (fX0_told q28 q26.2).bind fun q30 => some (q30.1, q30.2) else (fX0_refuse (-5) σ).bind fun q32 => some (q32.1, q32.2) else (fX0_refuse (-2) σ).bind fun q34 => some (q34.1, q34.2) else fX0_offer_J49   σ
set_option maxHeartbeats 1500000 in
theorem fX0_offer_ok (x1 : Int32) (x2 : Int32) (x3 : Int32) (x4 : Int32) (x5 : Int32) (σ : Sg) (r : (Int32 × Sg)) (hf : fX0_offer x1 x2 x3 x4 x5 σ = some r) : Cl true 6 5206 [.ref 0, .int x1, .int x2, .int x3, .int x4, .int x5] σ (.inl (some (.int (r).1)), (r).2) := by
  refine ⟨iX0_offer, rfl, Nat.le_of_ble_eq_true rfl, Nat.le_of_ble_eq_true rfl, ?_⟩
  show Go true 6 iX0_offer (0, [some (.ref 0), some (.int x1), some (.int x2), some (.int x3), some (.int x4), some (.int x5)], [], σ) (.inl (some (.int (r).1)), (r).2)
  unfold fX0_offer at hf
  refine go_n 1 (f := (1, [some (.ref 0), some (.int x1), some (.int x2), some (.int x3), some (.int x4), some (.int x5)], [.int x2], σ)) rfl ?_
  obtain ⟨q1, h2, hf⟩ := bnd hf
  refine go_c (mid := 5128) (args := [.int x2]) (pc := 4) (L := [some (.ref 0), some (.int x1), some (.int x2), some (.int x3), some (.int x4), some (.int x5)]) (st := []) (σ := σ) rfl ((fX0_isDay_ok _ _ q1 h2).deep (Nat.le_of_ble_eq_true rfl)) ?_
  by_cases h3 : q1 = 0
  · rw [if_pos h3] at hf
    refine go_it (t := 49) (f := 7) (L1 := [some (.ref 0), some (.int x1), some (.int x2), some (.int x3), some (.int x4), some (.int x5)]) (st1 := []) (σ1 := σ) rfl h3 ?_
    refine go_e (L1 := [some (.ref 0), none, none, none, none, none]) rfl rfl ?_
    exact fX0_offer_J49_ok   _  _ hf
  · rw [if_neg h3] at hf
    refine go_if (t := 49) (f := 7) (L1 := [some (.ref 0), some (.int x1), some (.int x2), some (.int x3), some (.int x4), some (.int x5)]) (st1 := []) (σ1 := σ) rfl h3 ?_
    refine go_n 3 (f := (11, [some (.ref 0), some (.int x1), some (.int x2), some (.int x3), some (.int x4), some (.int x5)], [.int 109999, .int x2, .int x3], σ)) rfl ?_
    obtain ⟨q6, h7, hf⟩ := bnd hf
    refine go_c (mid := 5122) (args := [.int x3, .int x2, .int 109999]) (pc := 14) (L := [some (.ref 0), some (.int x1), some (.int x2), some (.int x3), some (.int x4), some (.int x5)]) (st := []) (σ := σ) rfl ((fX0_in_ok _ _ _ _ q6 h7).deep (Nat.le_of_ble_eq_true rfl)) ?_
    by_cases h8 : q6 = 0
    · rw [if_pos h8] at hf
      refine go_it (t := 49) (f := 17) (L1 := [some (.ref 0), some (.int x1), some (.int x2), some (.int x3), some (.int x4), some (.int x5)]) (st1 := []) (σ1 := σ) rfl h8 ?_
      refine go_e (L1 := [some (.ref 0), none, none, none, none, none]) rfl rfl ?_
      exact fX0_offer_J49_ok   _  _ hf
    · rw [if_neg h8] at hf
      refine go_if (t := 49) (f := 17) (L1 := [some (.ref 0), some (.int x1), some (.int x2), some (.int x3), some (.int x4), some (.int x5)]) (st1 := []) (σ1 := σ) rfl h8 ?_
      refine go_n 4 (f := (23, [some (.ref 0), some (.int x1), some (.int x2), some (.int x3), some (.int x4), some (.int x5)], [.int 199, .int (x3 - x2)], σ)) rfl ?_
      by_cases h9 : 199 < (x3 - x2)
      · rw [if_pos h9] at hf
        refine go_it (t := 49) (f := 26) (L1 := [some (.ref 0), some (.int x1), some (.int x2), some (.int x3), some (.int x4), some (.int x5)]) (st1 := []) (σ1 := σ) rfl h9 ?_
        refine go_e (L1 := [some (.ref 0), none, none, none, none, none]) rfl rfl ?_
        exact fX0_offer_J49_ok   _  _ hf
      · rw [if_neg h9] at hf
        refine go_if (t := 49) (f := 26) (L1 := [some (.ref 0), some (.int x1), some (.int x2), some (.int x3), some (.int x4), some (.int x5)]) (st1 := []) (σ1 := σ) rfl h9 ?_
        refine go_n 3 (f := (32, [some (.ref 0), some (.int x1), some (.int x2), some (.int x3), some (.int x4), some (.int x5)], [.int 2000, .int 0, .int x4], σ)) rfl ?_
        obtain ⟨q10, h11, hf⟩ := bnd hf
        refine go_c (mid := 5122) (args := [.int x4, .int 0, .int 2000]) (pc := 35) (L := [some (.ref 0), some (.int x1), some (.int x2), some (.int x3), some (.int x4), some (.int x5)]) (st := []) (σ := σ) rfl ((fX0_in_ok _ _ _ _ q10 h11).deep (Nat.le_of_ble_eq_true rfl)) ?_
        by_cases h12 : q10 = 0
        · rw [if_pos h12] at hf
          refine go_it (t := 49) (f := 38) (L1 := [some (.ref 0), some (.int x1), some (.int x2), some (.int x3), some (.int x4), some (.int x5)]) (st1 := []) (σ1 := σ) rfl h12 ?_
          refine go_e (L1 := [some (.ref 0), none, none, none, none, none]) rfl rfl ?_
          exact fX0_offer_J49_ok   _  _ hf
        · rw [if_neg h12] at hf
          refine go_if (t := 49) (f := 38) (L1 := [some (.ref 0), some (.int x1), some (.int x2), some (.int x3), some (.int x4), some (.int x5)]) (st1 := []) (σ1 := σ) rfl h12 ?_
          refine go_n 3 (f := (43, [some (.ref 0), some (.int x1), some (.int x2), some (.int x3), some (.int x4), some (.int x5)], [.int 100, .int 1, .int x5], σ)) rfl ?_
          obtain ⟨q13, h14, hf⟩ := bnd hf
          refine go_c (mid := 5122) (args := [.int x5, .int 1, .int 100]) (pc := 46) (L := [some (.ref 0), some (.int x1), some (.int x2), some (.int x3), some (.int x4), some (.int x5)]) (st := []) (σ := σ) rfl ((fX0_in_ok _ _ _ _ q13 h14).deep (Nat.le_of_ble_eq_true rfl)) ?_
          by_cases h15 : q13 ≠ 0
          · rw [if_pos h15] at hf
            refine go_it (t := 55) (f := 49) (L1 := [some (.ref 0), some (.int x1), some (.int x2), some (.int x3), some (.int x4), some (.int x5)]) (st1 := []) (σ1 := σ) rfl h15 ?_
            refine go_n 2 (f := (57, [some (.ref 0), some (.int x1), some (.int x2), some (.int x3), some (.int x4), some (.int x5)], [.int x1, .ref 0], σ)) rfl ?_
            obtain ⟨q16, h17, hf⟩ := bnd hf
            refine go_c (mid := 5139) (args := [.ref 0, .int x1]) (pc := 60) (L := [some (.ref 0), some (.int x1), some (.int x2), some (.int x3), some (.int x4), some (.int x5)]) (st := []) (σ := σ) rfl ((fX0_isPlace_ok _ _ q16 h17).deep (Nat.le_of_ble_eq_true rfl)) ?_
            by_cases h18 : q16 ≠ 0
            · rw [if_pos h18] at hf
              refine go_it (t := 70) (f := 63) (L1 := [some (.ref 0), some (.int x1), some (.int x2), some (.int x3), some (.int x4), some (.int x5)]) (st1 := []) (σ1 := σ) rfl h18 ?_
              refine go_n 3 (f := (77, [some (.ref 0), some (.int x1), some (.int x2), some (.int x3), some (.int x4), some (.int x5)], [.ref 8], σ)) rfl ?_
              obtain ⟨q19, h20, hf⟩ := bnd hf
              refine go_c (mid := 2821) (args := [.ref 8]) (pc := 80) (L := [some (.ref 0), some (.int x1), some (.int x2), some (.int x3), some (.int x4), some (.int x5)]) (st := []) (σ := σ) rfl ((fJ2_size_ok _ _ q19 h20).deep (Nat.le_of_ble_eq_true rfl)) ?_
              refine go_n 1 (f := (82, [some (.ref 0), some (.int x1), some (.int x2), some (.int x3), some (.int x4), some (.int x5)], [.int 10, .int q19], σ)) rfl ?_
              by_cases h21 : q19 ≠ 10
              · rw [if_pos h21] at hf
                refine go_it (t := 92) (f := 85) (L1 := [some (.ref 0), some (.int x1), some (.int x2), some (.int x3), some (.int x4), some (.int x5)]) (st1 := []) (σ1 := σ) rfl h21 ?_
                refine go_n 3 (f := (99, [some (.ref 0), some (.int x1), some (.int x2), some (.int x3), some (.int x4), some (.int x5)], [.ref 8], σ)) rfl ?_
                obtain ⟨σ23, h22, hf⟩ := bnd hf
                refine go_new rfl rfl rfl h22 ?_
                refine go_n 6 (f := (110, [some (.ref 0), some (.int x1), some (.int x2), some (.int x3), some (.int x4), some (.int x5)], [.int x5, .int x4, .int x3, .int x2, .int x1, .ref (gz σ), .ref (gz σ), .ref 8], σ23)) rfl ?_
                obtain ⟨q24, h25, hf⟩ := bnd hf
                refine go_c (mid := 10496) (args := [.ref (gz σ), .int x1, .int x2, .int x3, .int x4, .int x5]) (pc := 113) (L := [some (.ref 0), some (.int x1), some (.int x2), some (.int x3), some (.int x4), some (.int x5)]) (st := [.ref (gz σ), .ref 8]) (σ := σ23) rfl ((fX28_init_ok _ _ _ _ _ _ _ q24 h25).deep (Nat.le_of_ble_eq_true rfl)) ?_
                obtain ⟨q26, h27, hf⟩ := bnd hf
                refine go_c (mid := 2822) (args := [.ref 8, .ref (gz σ)]) (pc := 116) (L := [some (.ref 0), some (.int x1), some (.int x2), some (.int x3), some (.int x4), some (.int x5)]) (st := []) (σ := q24) rfl ((fJ2_add_ok _ _ _ q26 h27).deep (Nat.le_of_ble_eq_true rfl)) ?_
                refine go_n 5 (f := (125, [some (.ref 0), some (.int x1), some (.int x2), some (.int x3), some (.int x4), some (.int x5)], [.ref 8, .ref 0], q26.2)) rfl ?_
                obtain ⟨q28, h29, hf⟩ := bnd hf
                refine go_c (mid := 2821) (args := [.ref 8]) (pc := 128) (L := [some (.ref 0), some (.int x1), some (.int x2), some (.int x3), some (.int x4), some (.int x5)]) (st := [.ref 0]) (σ := q26.2) rfl ((fJ2_size_ok _ _ q28 h29).deep (Nat.le_of_ble_eq_true rfl)) ?_
                obtain ⟨q30, h31, hf⟩ := bnd hf
                refine go_c (mid := 5136) (args := [.ref 0, .int q28]) (pc := 131) (L := [some (.ref 0), some (.int x1), some (.int x2), some (.int x3), some (.int x4), some (.int x5)]) (st := []) (σ := q26.2) rfl ((fX0_told_ok _ _ q30 h31).deep (Nat.le_of_ble_eq_true rfl)) ?_
                cases hf
                exact go_r rfl
              · rw [if_neg h21] at hf
                refine go_if (t := 92) (f := 85) (L1 := [some (.ref 0), some (.int x1), some (.int x2), some (.int x3), some (.int x4), some (.int x5)]) (st1 := []) (σ1 := σ) rfl h21 ?_
                refine go_n 2 (f := (88, [some (.ref 0), some (.int x1), some (.int x2), some (.int x3), some (.int x4), some (.int x5)], [.int (-5), .ref 0], σ)) rfl ?_
                obtain ⟨q32, h33, hf⟩ := bnd hf
                refine go_c (mid := 5133) (args := [.ref 0, .int (-5)]) (pc := 91) (L := [some (.ref 0), some (.int x1), some (.int x2), some (.int x3), some (.int x4), some (.int x5)]) (st := []) (σ := σ) rfl ((fX0_refuse_ok _ _ q32 h33).deep (Nat.le_of_ble_eq_true rfl)) ?_
                cases hf
                exact go_r rfl
            · rw [if_neg h18] at hf
              refine go_if (t := 70) (f := 63) (L1 := [some (.ref 0), some (.int x1), some (.int x2), some (.int x3), some (.int x4), some (.int x5)]) (st1 := []) (σ1 := σ) rfl h18 ?_
              refine go_n 2 (f := (66, [some (.ref 0), some (.int x1), some (.int x2), some (.int x3), some (.int x4), some (.int x5)], [.int (-2), .ref 0], σ)) rfl ?_
              obtain ⟨q34, h35, hf⟩ := bnd hf
              refine go_c (mid := 5133) (args := [.ref 0, .int (-2)]) (pc := 69) (L := [some (.ref 0), some (.int x1), some (.int x2), some (.int x3), some (.int x4), some (.int x5)]) (st := []) (σ := σ) rfl ((fX0_refuse_ok _ _ q34 h35).deep (Nat.le_of_ble_eq_true rfl)) ?_
              cases hf
              exact go_r rfl
          · rw [if_neg h15] at hf
            refine go_if (t := 55) (f := 49) (L1 := [some (.ref 0), some (.int x1), some (.int x2), some (.int x3), some (.int x4), some (.int x5)]) (st1 := []) (σ1 := σ) rfl h15 ?_
            refine go_e (L1 := [some (.ref 0), none, none, none, none, none]) rfl rfl ?_
            exact fX0_offer_J49_ok   _  _ hf
/-! OldWeather$Told.takes(LOldWeather$Told;)V -/
def fX1_takes (x0 : Nat) (x1 : Nat) (σ : Sg) : Option Sg :=
  if [11].elem (kk σ x0) = true then (match (rf σ x0 0) with
  | some a1 => if [11].elem (kk σ x1) = true then (match (rf σ x1 0) with
  | some a4 => (fX1_over a1 a4 σ).bind fun q7 => if [11].elem (kk q7 x0) = true then (match (rf q7 x0 1) with
  | some a9 => if [11].elem (kk q7 x1) = true then (match (rf q7 x1 1) with
  | some a12 => (fX1_over a9 a12 q7).bind fun q15 => if [11].elem (kk q15 x0) = true then (match (rf q15 x0 2) with
  | some a17 => if [11].elem (kk q15 x1) = true then (match (rf q15 x1 2) with
  | some a20 => (fX1_over a17 a20 q15).bind fun q23 => if [11].elem (kk q23 x0) = true then (match (rf q23 x0 3) with
  | some a25 => if [11].elem (kk q23 x1) = true then (match (rf q23 x1 3) with
  | some a28 => (fX1_over a25 a28 q23).bind fun q31 => if [11].elem (kk q31 x0) = true then (match (rf q31 x0 4) with
  | some a33 => if [11].elem (kk q31 x1) = true then (match (rf q31 x1 4) with
  | some a36 => (fX1_rows a33 a36 q31).bind fun q39 => if [11].elem (kk q39 x0) = true then (match (rf q39 x0 5) with
  | some a41 => if [11].elem (kk q39 x1) = true then (match (rf q39 x1 5) with
  | some a44 => (fX1_rows a41 a44 q39).bind fun q47 => if [11].elem (kk q47 x0) = true then (match (rf q47 x0 6) with
  | some a49 => if [11].elem (kk q47 x1) = true then (match (rf q47 x1 6) with
  | some a52 => (fX1_rows a49 a52 q47).bind fun q55 => if [11].elem (kk q55 x0) = true then (match (rf q55 x0 7) with
  | some a57 => if [11].elem (kk q55 x1) = true then (match (rf q55 x1 7) with
  | some a60 => (fX1_rows a57 a60 q55).bind fun q63 => if [11].elem (kk q63 x0) = true then (match (rf q63 x0 8) with
  | some a65 => if [11].elem (kk q63 x1) = true then (match (rf q63 x1 8) with
  | some a68 => (fX1_rows a65 a68 q63).bind fun q71 => if [11].elem (kk q71 x0) = true then (match (rf q71 x0 9) with
  | some a73 => if [11].elem (kk q71 x1) = true then (match (rf q71 x1 9) with
  | some a76 => (fX1_rows a73 a76 q71).bind fun q79 => if [11].elem (kk q79 x0) = true then (match (rf q79 x0 10) with
  | some a81 => if [11].elem (kk q79 x1) = true then (match (rf q79 x1 10) with
  | some a84 => (fX1_rows a81 a84 q79).bind fun q87 => if [11].elem (kk q87 x0) = true then (match (rf q87 x0 11) with
  | some a89 => if [11].elem (kk q87 x1) = true then (match (rf q87 x1 11) with
  | some a92 => (fX1_rows a89 a92 q87).bind fun q95 => if [11].elem (kk q95 x0) = true then (match (rf q95 x0 12) with
  | some a97 => if [11].elem (kk q95 x1) = true then (match (rf q95 x1 12) with
  | some a100 => (fX1_rows a97 a100 q95).bind fun q103 => if [11].elem (kk q103 x0) = true then (match (rf q103 x0 13) with
  | some a105 => if [11].elem (kk q103 x1) = true then (match (rf q103 x1 13) with
  | some a108 => (fX1_rows a105 a108 q103).bind fun q111 => if [11].elem (kk q111 x0) = true then (match (rf q111 x0 14) with
  | some a113 => if [11].elem (kk q111 x1) = true then (match (rf q111 x1 14) with
  | some a116 => (fX1_rows a113 a116 q111).bind fun q119 => if [11].elem (kk q119 x0) = true then (match (rf q119 x0 15) with
  | some a121 => if [11].elem (kk q119 x1) = true then (match (rf q119 x1 15) with
  | some a124 => (fX1_rows a121 a124 q119).bind fun q127 => if [11].elem (kk q127 x1) = true then (match (rf q127 x1 16) with
  | some a129 => if [11].elem (kk q127 x0) = true then (match (rf q127 x0 16) with
  | some a132 => (am_cpy true q127 a129 0 a132 0 3624).bind fun q136 => if [11].elem (kk q136 x1) = true then (match (rf q136 x1 17) with
  | some a137 => if [11].elem (kk q136 x0) = true then (match (rf q136 x0 17) with
  | some a140 => (am_cpy true q136 a137 0 a140 0 3624).bind fun q144 => if [11].elem (kk q144 x1) = true then if [11].elem (kk q144 x0) = true then if [11].elem (kk q144 x1) = true then if [11].elem (kk q144 x0) = true then some (wi (wi q144 x0 18 (gi q144 x1 18)) x0 19 (gi (wi q144 x0 18 (gi q144 x1 18)) x1 19)) else none else none else none else none
  | none => none) else none
  | none => none) else none
  | none => none) else none
  | none => none) else none
  | none => none) else none
  | none => none) else none
  | none => none) else none
  | none => none) else none
  | none => none) else none
  | none => none) else none
  | none => none) else none
  | none => none) else none
  | none => none) else none
  | none => none) else none
  | none => none) else none
  | none => none) else none
  | none => none) else none
  | none => none) else none
  | none => none) else none
  | none => none) else none
  | none => none) else none
  | none => none) else none
  | none => none) else none
  | none => none) else none
  | none => none) else none
  | none => none) else none
  | none => none) else none
  | none => none) else none
  | none => none) else none
  | none => none) else none
  | none => none) else none
  | none => none) else none
  | none => none) else none
  | none => none) else none
  | none => none) else none
  | none => none) else none
set_option maxHeartbeats 1500000 in
theorem fX1_takes_ok (x0 : Nat) (x1 : Nat) (σ : Sg) (r : Sg) (hf : fX1_takes x0 x1 σ = some r) : Cl true 5 5377 [.ref x0, .ref x1] σ (.inl none, r) := by
  refine ⟨iX1_takes, rfl, Nat.le_of_ble_eq_true rfl, Nat.le_of_ble_eq_true rfl, ?_⟩
  show Go true 5 iX1_takes (0, [some (.ref x0), some (.ref x1)], [], σ) (.inl none, r)
  unfold fX1_takes at hf
  refine go_n 1 (f := (1, [some (.ref x0), some (.ref x1)], [.ref x0], σ)) rfl ?_
  obtain ⟨h2, hf⟩ := grd hf
  refine go_get rfl rfl rfl h2 ?_
  show Go true 5 iX1_takes (4, [some (.ref x0), some (.ref x1)], va_rf (rf σ x0 0) :: [], σ) _
  generalize hR3 : (rf σ x0 0) = h184 at hf ⊢
  cases h184 with
  | none =>
    cases hf
  | some a1 =>
    refine go_n 1 (f := (5, [some (.ref x0), some (.ref x1)], [.ref x1, .ref a1], σ)) rfl ?_
    obtain ⟨h5, hf⟩ := grd hf
    refine go_get rfl rfl rfl h5 ?_
    show Go true 5 iX1_takes (8, [some (.ref x0), some (.ref x1)], va_rf (rf σ x1 0) :: [.ref a1], σ) _
    generalize hR6 : (rf σ x1 0) = h183 at hf ⊢
    cases h183 with
    | none =>
      cases hf
    | some a4 =>
      obtain ⟨q7, h8, hf⟩ := bnd hf
      refine go_c (mid := 5378) (args := [.ref a1, .ref a4]) (pc := 11) (L := [some (.ref x0), some (.ref x1)]) (st := []) (σ := σ) rfl ((fX1_over_ok _ _ _ q7 h8).deep (Nat.le_of_ble_eq_true rfl)) ?_
      refine go_n 1 (f := (12, [some (.ref x0), some (.ref x1)], [.ref x0], q7)) rfl ?_
      obtain ⟨h10, hf⟩ := grd hf
      refine go_get rfl rfl rfl h10 ?_
      show Go true 5 iX1_takes (15, [some (.ref x0), some (.ref x1)], va_rf (rf q7 x0 1) :: [], q7) _
      generalize hR11 : (rf q7 x0 1) = h182 at hf ⊢
      cases h182 with
      | none =>
        cases hf
      | some a9 =>
        refine go_n 1 (f := (16, [some (.ref x0), some (.ref x1)], [.ref x1, .ref a9], q7)) rfl ?_
        obtain ⟨h13, hf⟩ := grd hf
        refine go_get rfl rfl rfl h13 ?_
        show Go true 5 iX1_takes (19, [some (.ref x0), some (.ref x1)], va_rf (rf q7 x1 1) :: [.ref a9], q7) _
        generalize hR14 : (rf q7 x1 1) = h181 at hf ⊢
        cases h181 with
        | none =>
          cases hf
        | some a12 =>
          obtain ⟨q15, h16, hf⟩ := bnd hf
          refine go_c (mid := 5378) (args := [.ref a9, .ref a12]) (pc := 22) (L := [some (.ref x0), some (.ref x1)]) (st := []) (σ := q7) rfl ((fX1_over_ok _ _ _ q15 h16).deep (Nat.le_of_ble_eq_true rfl)) ?_
          refine go_n 1 (f := (23, [some (.ref x0), some (.ref x1)], [.ref x0], q15)) rfl ?_
          obtain ⟨h18, hf⟩ := grd hf
          refine go_get rfl rfl rfl h18 ?_
          show Go true 5 iX1_takes (26, [some (.ref x0), some (.ref x1)], va_rf (rf q15 x0 2) :: [], q15) _
          generalize hR19 : (rf q15 x0 2) = h180 at hf ⊢
          cases h180 with
          | none =>
            cases hf
          | some a17 =>
            refine go_n 1 (f := (27, [some (.ref x0), some (.ref x1)], [.ref x1, .ref a17], q15)) rfl ?_
            obtain ⟨h21, hf⟩ := grd hf
            refine go_get rfl rfl rfl h21 ?_
            show Go true 5 iX1_takes (30, [some (.ref x0), some (.ref x1)], va_rf (rf q15 x1 2) :: [.ref a17], q15) _
            generalize hR22 : (rf q15 x1 2) = h179 at hf ⊢
            cases h179 with
            | none =>
              cases hf
            | some a20 =>
              obtain ⟨q23, h24, hf⟩ := bnd hf
              refine go_c (mid := 5378) (args := [.ref a17, .ref a20]) (pc := 33) (L := [some (.ref x0), some (.ref x1)]) (st := []) (σ := q15) rfl ((fX1_over_ok _ _ _ q23 h24).deep (Nat.le_of_ble_eq_true rfl)) ?_
              refine go_n 1 (f := (34, [some (.ref x0), some (.ref x1)], [.ref x0], q23)) rfl ?_
              obtain ⟨h26, hf⟩ := grd hf
              refine go_get rfl rfl rfl h26 ?_
              show Go true 5 iX1_takes (37, [some (.ref x0), some (.ref x1)], va_rf (rf q23 x0 3) :: [], q23) _
              generalize hR27 : (rf q23 x0 3) = h178 at hf ⊢
              cases h178 with
              | none =>
                cases hf
              | some a25 =>
                refine go_n 1 (f := (38, [some (.ref x0), some (.ref x1)], [.ref x1, .ref a25], q23)) rfl ?_
                obtain ⟨h29, hf⟩ := grd hf
                refine go_get rfl rfl rfl h29 ?_
                show Go true 5 iX1_takes (41, [some (.ref x0), some (.ref x1)], va_rf (rf q23 x1 3) :: [.ref a25], q23) _
                generalize hR30 : (rf q23 x1 3) = h177 at hf ⊢
                cases h177 with
                | none =>
                  cases hf
                | some a28 =>
                  obtain ⟨q31, h32, hf⟩ := bnd hf
                  refine go_c (mid := 5378) (args := [.ref a25, .ref a28]) (pc := 44) (L := [some (.ref x0), some (.ref x1)]) (st := []) (σ := q23) rfl ((fX1_over_ok _ _ _ q31 h32).deep (Nat.le_of_ble_eq_true rfl)) ?_
                  refine go_n 1 (f := (45, [some (.ref x0), some (.ref x1)], [.ref x0], q31)) rfl ?_
                  obtain ⟨h34, hf⟩ := grd hf
                  refine go_get rfl rfl rfl h34 ?_
                  show Go true 5 iX1_takes (48, [some (.ref x0), some (.ref x1)], va_rf (rf q31 x0 4) :: [], q31) _
                  generalize hR35 : (rf q31 x0 4) = h176 at hf ⊢
                  cases h176 with
                  | none =>
                    cases hf
                  | some a33 =>
                    refine go_n 1 (f := (49, [some (.ref x0), some (.ref x1)], [.ref x1, .ref a33], q31)) rfl ?_
                    obtain ⟨h37, hf⟩ := grd hf
                    refine go_get rfl rfl rfl h37 ?_
                    show Go true 5 iX1_takes (52, [some (.ref x0), some (.ref x1)], va_rf (rf q31 x1 4) :: [.ref a33], q31) _
                    generalize hR38 : (rf q31 x1 4) = h175 at hf ⊢
                    cases h175 with
                    | none =>
                      cases hf
                    | some a36 =>
                      obtain ⟨q39, h40, hf⟩ := bnd hf
                      refine go_c (mid := 5379) (args := [.ref a33, .ref a36]) (pc := 55) (L := [some (.ref x0), some (.ref x1)]) (st := []) (σ := q31) rfl ((fX1_rows_ok _ _ _ q39 h40).deep (Nat.le_of_ble_eq_true rfl)) ?_
                      refine go_n 1 (f := (56, [some (.ref x0), some (.ref x1)], [.ref x0], q39)) rfl ?_
                      obtain ⟨h42, hf⟩ := grd hf
                      refine go_get rfl rfl rfl h42 ?_
                      show Go true 5 iX1_takes (59, [some (.ref x0), some (.ref x1)], va_rf (rf q39 x0 5) :: [], q39) _
                      generalize hR43 : (rf q39 x0 5) = h174 at hf ⊢
                      cases h174 with
                      | none =>
                        cases hf
                      | some a41 =>
                        refine go_n 1 (f := (60, [some (.ref x0), some (.ref x1)], [.ref x1, .ref a41], q39)) rfl ?_
                        obtain ⟨h45, hf⟩ := grd hf
                        refine go_get rfl rfl rfl h45 ?_
                        show Go true 5 iX1_takes (63, [some (.ref x0), some (.ref x1)], va_rf (rf q39 x1 5) :: [.ref a41], q39) _
                        generalize hR46 : (rf q39 x1 5) = h173 at hf ⊢
                        cases h173 with
                        | none =>
                          cases hf
                        | some a44 =>
                          obtain ⟨q47, h48, hf⟩ := bnd hf
                          refine go_c (mid := 5379) (args := [.ref a41, .ref a44]) (pc := 66) (L := [some (.ref x0), some (.ref x1)]) (st := []) (σ := q39) rfl ((fX1_rows_ok _ _ _ q47 h48).deep (Nat.le_of_ble_eq_true rfl)) ?_
                          refine go_n 1 (f := (67, [some (.ref x0), some (.ref x1)], [.ref x0], q47)) rfl ?_
                          obtain ⟨h50, hf⟩ := grd hf
                          refine go_get rfl rfl rfl h50 ?_
                          show Go true 5 iX1_takes (70, [some (.ref x0), some (.ref x1)], va_rf (rf q47 x0 6) :: [], q47) _
                          generalize hR51 : (rf q47 x0 6) = h172 at hf ⊢
                          cases h172 with
                          | none =>
                            cases hf
                          | some a49 =>
                            refine go_n 1 (f := (71, [some (.ref x0), some (.ref x1)], [.ref x1, .ref a49], q47)) rfl ?_
                            obtain ⟨h53, hf⟩ := grd hf
                            refine go_get rfl rfl rfl h53 ?_
                            show Go true 5 iX1_takes (74, [some (.ref x0), some (.ref x1)], va_rf (rf q47 x1 6) :: [.ref a49], q47) _
                            generalize hR54 : (rf q47 x1 6) = h171 at hf ⊢
                            cases h171 with
                            | none =>
                              cases hf
                            | some a52 =>
                              obtain ⟨q55, h56, hf⟩ := bnd hf
                              refine go_c (mid := 5379) (args := [.ref a49, .ref a52]) (pc := 77) (L := [some (.ref x0), some (.ref x1)]) (st := []) (σ := q47) rfl ((fX1_rows_ok _ _ _ q55 h56).deep (Nat.le_of_ble_eq_true rfl)) ?_
                              refine go_n 1 (f := (78, [some (.ref x0), some (.ref x1)], [.ref x0], q55)) rfl ?_
                              obtain ⟨h58, hf⟩ := grd hf
                              refine go_get rfl rfl rfl h58 ?_
                              show Go true 5 iX1_takes (81, [some (.ref x0), some (.ref x1)], va_rf (rf q55 x0 7) :: [], q55) _
                              generalize hR59 : (rf q55 x0 7) = h170 at hf ⊢
                              cases h170 with
                              | none =>
                                cases hf
                              | some a57 =>
                                refine go_n 1 (f := (82, [some (.ref x0), some (.ref x1)], [.ref x1, .ref a57], q55)) rfl ?_
                                obtain ⟨h61, hf⟩ := grd hf
                                refine go_get rfl rfl rfl h61 ?_
                                show Go true 5 iX1_takes (85, [some (.ref x0), some (.ref x1)], va_rf (rf q55 x1 7) :: [.ref a57], q55) _
                                generalize hR62 : (rf q55 x1 7) = h169 at hf ⊢
                                cases h169 with
                                | none =>
                                  cases hf
                                | some a60 =>
                                  obtain ⟨q63, h64, hf⟩ := bnd hf
                                  refine go_c (mid := 5379) (args := [.ref a57, .ref a60]) (pc := 88) (L := [some (.ref x0), some (.ref x1)]) (st := []) (σ := q55) rfl ((fX1_rows_ok _ _ _ q63 h64).deep (Nat.le_of_ble_eq_true rfl)) ?_
                                  refine go_n 1 (f := (89, [some (.ref x0), some (.ref x1)], [.ref x0], q63)) rfl ?_
                                  obtain ⟨h66, hf⟩ := grd hf
                                  refine go_get rfl rfl rfl h66 ?_
                                  show Go true 5 iX1_takes (92, [some (.ref x0), some (.ref x1)], va_rf (rf q63 x0 8) :: [], q63) _
                                  generalize hR67 : (rf q63 x0 8) = h168 at hf ⊢
                                  cases h168 with
                                  | none =>
                                    cases hf
                                  | some a65 =>
                                    refine go_n 1 (f := (93, [some (.ref x0), some (.ref x1)], [.ref x1, .ref a65], q63)) rfl ?_
                                    obtain ⟨h69, hf⟩ := grd hf
                                    refine go_get rfl rfl rfl h69 ?_
                                    show Go true 5 iX1_takes (96, [some (.ref x0), some (.ref x1)], va_rf (rf q63 x1 8) :: [.ref a65], q63) _
                                    generalize hR70 : (rf q63 x1 8) = h167 at hf ⊢
                                    cases h167 with
                                    | none =>
                                      cases hf
                                    | some a68 =>
                                      obtain ⟨q71, h72, hf⟩ := bnd hf
                                      refine go_c (mid := 5379) (args := [.ref a65, .ref a68]) (pc := 99) (L := [some (.ref x0), some (.ref x1)]) (st := []) (σ := q63) rfl ((fX1_rows_ok _ _ _ q71 h72).deep (Nat.le_of_ble_eq_true rfl)) ?_
                                      refine go_n 1 (f := (100, [some (.ref x0), some (.ref x1)], [.ref x0], q71)) rfl ?_
                                      obtain ⟨h74, hf⟩ := grd hf
                                      refine go_get rfl rfl rfl h74 ?_
                                      show Go true 5 iX1_takes (103, [some (.ref x0), some (.ref x1)], va_rf (rf q71 x0 9) :: [], q71) _
                                      generalize hR75 : (rf q71 x0 9) = h166 at hf ⊢
                                      cases h166 with
                                      | none =>
                                        cases hf
                                      | some a73 =>
                                        refine go_n 1 (f := (104, [some (.ref x0), some (.ref x1)], [.ref x1, .ref a73], q71)) rfl ?_
                                        obtain ⟨h77, hf⟩ := grd hf
                                        refine go_get rfl rfl rfl h77 ?_
                                        show Go true 5 iX1_takes (107, [some (.ref x0), some (.ref x1)], va_rf (rf q71 x1 9) :: [.ref a73], q71) _
                                        generalize hR78 : (rf q71 x1 9) = h165 at hf ⊢
                                        cases h165 with
                                        | none =>
                                          cases hf
                                        | some a76 =>
                                          obtain ⟨q79, h80, hf⟩ := bnd hf
                                          refine go_c (mid := 5379) (args := [.ref a73, .ref a76]) (pc := 110) (L := [some (.ref x0), some (.ref x1)]) (st := []) (σ := q71) rfl ((fX1_rows_ok _ _ _ q79 h80).deep (Nat.le_of_ble_eq_true rfl)) ?_
                                          refine go_n 1 (f := (111, [some (.ref x0), some (.ref x1)], [.ref x0], q79)) rfl ?_
                                          obtain ⟨h82, hf⟩ := grd hf
                                          refine go_get rfl rfl rfl h82 ?_
                                          show Go true 5 iX1_takes (114, [some (.ref x0), some (.ref x1)], va_rf (rf q79 x0 10) :: [], q79) _
                                          generalize hR83 : (rf q79 x0 10) = h164 at hf ⊢
                                          cases h164 with
                                          | none =>
                                            cases hf
                                          | some a81 =>
                                            refine go_n 1 (f := (115, [some (.ref x0), some (.ref x1)], [.ref x1, .ref a81], q79)) rfl ?_
                                            obtain ⟨h85, hf⟩ := grd hf
                                            refine go_get rfl rfl rfl h85 ?_
                                            show Go true 5 iX1_takes (118, [some (.ref x0), some (.ref x1)], va_rf (rf q79 x1 10) :: [.ref a81], q79) _
                                            generalize hR86 : (rf q79 x1 10) = h163 at hf ⊢
                                            cases h163 with
                                            | none =>
                                              cases hf
                                            | some a84 =>
                                              obtain ⟨q87, h88, hf⟩ := bnd hf
                                              refine go_c (mid := 5379) (args := [.ref a81, .ref a84]) (pc := 121) (L := [some (.ref x0), some (.ref x1)]) (st := []) (σ := q79) rfl ((fX1_rows_ok _ _ _ q87 h88).deep (Nat.le_of_ble_eq_true rfl)) ?_
                                              refine go_n 1 (f := (122, [some (.ref x0), some (.ref x1)], [.ref x0], q87)) rfl ?_
                                              obtain ⟨h90, hf⟩ := grd hf
                                              refine go_get rfl rfl rfl h90 ?_
                                              show Go true 5 iX1_takes (125, [some (.ref x0), some (.ref x1)], va_rf (rf q87 x0 11) :: [], q87) _
                                              generalize hR91 : (rf q87 x0 11) = h162 at hf ⊢
                                              cases h162 with
                                              | none =>
                                                cases hf
                                              | some a89 =>
                                                refine go_n 1 (f := (126, [some (.ref x0), some (.ref x1)], [.ref x1, .ref a89], q87)) rfl ?_
                                                obtain ⟨h93, hf⟩ := grd hf
                                                refine go_get rfl rfl rfl h93 ?_
                                                show Go true 5 iX1_takes (129, [some (.ref x0), some (.ref x1)], va_rf (rf q87 x1 11) :: [.ref a89], q87) _
                                                generalize hR94 : (rf q87 x1 11) = h161 at hf ⊢
                                                cases h161 with
                                                | none =>
                                                  cases hf
                                                | some a92 =>
                                                  obtain ⟨q95, h96, hf⟩ := bnd hf
                                                  refine go_c (mid := 5379) (args := [.ref a89, .ref a92]) (pc := 132) (L := [some (.ref x0), some (.ref x1)]) (st := []) (σ := q87) rfl ((fX1_rows_ok _ _ _ q95 h96).deep (Nat.le_of_ble_eq_true rfl)) ?_
                                                  refine go_n 1 (f := (133, [some (.ref x0), some (.ref x1)], [.ref x0], q95)) rfl ?_
                                                  obtain ⟨h98, hf⟩ := grd hf
                                                  refine go_get rfl rfl rfl h98 ?_
                                                  show Go true 5 iX1_takes (136, [some (.ref x0), some (.ref x1)], va_rf (rf q95 x0 12) :: [], q95) _
                                                  generalize hR99 : (rf q95 x0 12) = h160 at hf ⊢
                                                  cases h160 with
                                                  | none =>
                                                    cases hf
                                                  | some a97 =>
                                                    refine go_n 1 (f := (137, [some (.ref x0), some (.ref x1)], [.ref x1, .ref a97], q95)) rfl ?_
                                                    obtain ⟨h101, hf⟩ := grd hf
                                                    refine go_get rfl rfl rfl h101 ?_
                                                    show Go true 5 iX1_takes (140, [some (.ref x0), some (.ref x1)], va_rf (rf q95 x1 12) :: [.ref a97], q95) _
                                                    generalize hR102 : (rf q95 x1 12) = h159 at hf ⊢
                                                    cases h159 with
                                                    | none =>
                                                      cases hf
                                                    | some a100 =>
                                                      obtain ⟨q103, h104, hf⟩ := bnd hf
                                                      refine go_c (mid := 5379) (args := [.ref a97, .ref a100]) (pc := 143) (L := [some (.ref x0), some (.ref x1)]) (st := []) (σ := q95) rfl ((fX1_rows_ok _ _ _ q103 h104).deep (Nat.le_of_ble_eq_true rfl)) ?_
                                                      refine go_n 1 (f := (144, [some (.ref x0), some (.ref x1)], [.ref x0], q103)) rfl ?_
                                                      obtain ⟨h106, hf⟩ := grd hf
                                                      refine go_get rfl rfl rfl h106 ?_
                                                      show Go true 5 iX1_takes (147, [some (.ref x0), some (.ref x1)], va_rf (rf q103 x0 13) :: [], q103) _
                                                      generalize hR107 : (rf q103 x0 13) = h158 at hf ⊢
                                                      cases h158 with
                                                      | none =>
                                                        cases hf
                                                      | some a105 =>
                                                        refine go_n 1 (f := (148, [some (.ref x0), some (.ref x1)], [.ref x1, .ref a105], q103)) rfl ?_
                                                        obtain ⟨h109, hf⟩ := grd hf
                                                        refine go_get rfl rfl rfl h109 ?_
                                                        show Go true 5 iX1_takes (151, [some (.ref x0), some (.ref x1)], va_rf (rf q103 x1 13) :: [.ref a105], q103) _
                                                        generalize hR110 : (rf q103 x1 13) = h157 at hf ⊢
                                                        cases h157 with
                                                        | none =>
                                                          cases hf
                                                        | some a108 =>
                                                          obtain ⟨q111, h112, hf⟩ := bnd hf
                                                          refine go_c (mid := 5379) (args := [.ref a105, .ref a108]) (pc := 154) (L := [some (.ref x0), some (.ref x1)]) (st := []) (σ := q103) rfl ((fX1_rows_ok _ _ _ q111 h112).deep (Nat.le_of_ble_eq_true rfl)) ?_
                                                          refine go_n 1 (f := (155, [some (.ref x0), some (.ref x1)], [.ref x0], q111)) rfl ?_
                                                          obtain ⟨h114, hf⟩ := grd hf
                                                          refine go_get rfl rfl rfl h114 ?_
                                                          show Go true 5 iX1_takes (158, [some (.ref x0), some (.ref x1)], va_rf (rf q111 x0 14) :: [], q111) _
                                                          generalize hR115 : (rf q111 x0 14) = h156 at hf ⊢
                                                          cases h156 with
                                                          | none =>
                                                            cases hf
                                                          | some a113 =>
                                                            refine go_n 1 (f := (159, [some (.ref x0), some (.ref x1)], [.ref x1, .ref a113], q111)) rfl ?_
                                                            obtain ⟨h117, hf⟩ := grd hf
                                                            refine go_get rfl rfl rfl h117 ?_
                                                            show Go true 5 iX1_takes (162, [some (.ref x0), some (.ref x1)], va_rf (rf q111 x1 14) :: [.ref a113], q111) _
                                                            generalize hR118 : (rf q111 x1 14) = h155 at hf ⊢
                                                            cases h155 with
                                                            | none =>
                                                              cases hf
                                                            | some a116 =>
                                                              obtain ⟨q119, h120, hf⟩ := bnd hf
                                                              refine go_c (mid := 5379) (args := [.ref a113, .ref a116]) (pc := 165) (L := [some (.ref x0), some (.ref x1)]) (st := []) (σ := q111) rfl ((fX1_rows_ok _ _ _ q119 h120).deep (Nat.le_of_ble_eq_true rfl)) ?_
                                                              refine go_n 1 (f := (166, [some (.ref x0), some (.ref x1)], [.ref x0], q119)) rfl ?_
                                                              obtain ⟨h122, hf⟩ := grd hf
                                                              refine go_get rfl rfl rfl h122 ?_
                                                              show Go true 5 iX1_takes (169, [some (.ref x0), some (.ref x1)], va_rf (rf q119 x0 15) :: [], q119) _
                                                              generalize hR123 : (rf q119 x0 15) = h154 at hf ⊢
                                                              cases h154 with
                                                              | none =>
                                                                cases hf
                                                              | some a121 =>
                                                                refine go_n 1 (f := (170, [some (.ref x0), some (.ref x1)], [.ref x1, .ref a121], q119)) rfl ?_
                                                                obtain ⟨h125, hf⟩ := grd hf
                                                                refine go_get rfl rfl rfl h125 ?_
                                                                show Go true 5 iX1_takes (173, [some (.ref x0), some (.ref x1)], va_rf (rf q119 x1 15) :: [.ref a121], q119) _
                                                                generalize hR126 : (rf q119 x1 15) = h153 at hf ⊢
                                                                cases h153 with
                                                                | none =>
                                                                  cases hf
                                                                | some a124 =>
                                                                  obtain ⟨q127, h128, hf⟩ := bnd hf
                                                                  refine go_c (mid := 5379) (args := [.ref a121, .ref a124]) (pc := 176) (L := [some (.ref x0), some (.ref x1)]) (st := []) (σ := q119) rfl ((fX1_rows_ok _ _ _ q127 h128).deep (Nat.le_of_ble_eq_true rfl)) ?_
                                                                  refine go_n 1 (f := (177, [some (.ref x0), some (.ref x1)], [.ref x1], q127)) rfl ?_
                                                                  obtain ⟨h130, hf⟩ := grd hf
                                                                  refine go_get rfl rfl rfl h130 ?_
                                                                  show Go true 5 iX1_takes (180, [some (.ref x0), some (.ref x1)], va_rf (rf q127 x1 16) :: [], q127) _
                                                                  generalize hR131 : (rf q127 x1 16) = h152 at hf ⊢
                                                                  cases h152 with
                                                                  | none =>
                                                                    cases hf
                                                                  | some a129 =>
                                                                    refine go_n 2 (f := (182, [some (.ref x0), some (.ref x1)], [.ref x0, .int 0, .ref a129], q127)) rfl ?_
                                                                    obtain ⟨h133, hf⟩ := grd hf
                                                                    refine go_get rfl rfl rfl h133 ?_
                                                                    show Go true 5 iX1_takes (185, [some (.ref x0), some (.ref x1)], va_rf (rf q127 x0 16) :: [.int 0, .ref a129], q127) _
                                                                    generalize hR134 : (rf q127 x0 16) = h151 at hf ⊢
                                                                    cases h151 with
                                                                    | none =>
                                                                      cases hf
                                                                    | some a132 =>
                                                                      refine go_n 2 (f := (189, [some (.ref x0), some (.ref x1)], [.int 3624, .int 0, .ref a132, .int 0, .ref a129], q127)) rfl ?_
                                                                      obtain ⟨q136, h135, hf⟩ := bnd hf
                                                                      refine go_b (mid := 20001) (args := [.ref a129, .int 0, .ref a132, .int 0, .int 3624]) (pc := 192) (L := [some (.ref x0), some (.ref x1)]) (st := []) (σ := q127) rfl (by decide) (am_bi_cpy h135) ?_
                                                                      refine go_n 1 (f := (193, [some (.ref x0), some (.ref x1)], [.ref x1], q136)) rfl ?_
                                                                      obtain ⟨h138, hf⟩ := grd hf
                                                                      refine go_get rfl rfl rfl h138 ?_
                                                                      show Go true 5 iX1_takes (196, [some (.ref x0), some (.ref x1)], va_rf (rf q136 x1 17) :: [], q136) _
                                                                      generalize hR139 : (rf q136 x1 17) = h150 at hf ⊢
                                                                      cases h150 with
                                                                      | none =>
                                                                        cases hf
                                                                      | some a137 =>
                                                                        refine go_n 2 (f := (198, [some (.ref x0), some (.ref x1)], [.ref x0, .int 0, .ref a137], q136)) rfl ?_
                                                                        obtain ⟨h141, hf⟩ := grd hf
                                                                        refine go_get rfl rfl rfl h141 ?_
                                                                        show Go true 5 iX1_takes (201, [some (.ref x0), some (.ref x1)], va_rf (rf q136 x0 17) :: [.int 0, .ref a137], q136) _
                                                                        generalize hR142 : (rf q136 x0 17) = h149 at hf ⊢
                                                                        cases h149 with
                                                                        | none =>
                                                                          cases hf
                                                                        | some a140 =>
                                                                          refine go_n 2 (f := (205, [some (.ref x0), some (.ref x1)], [.int 3624, .int 0, .ref a140, .int 0, .ref a137], q136)) rfl ?_
                                                                          obtain ⟨q144, h143, hf⟩ := bnd hf
                                                                          refine go_b (mid := 20001) (args := [.ref a137, .int 0, .ref a140, .int 0, .int 3624]) (pc := 208) (L := [some (.ref x0), some (.ref x1)]) (st := []) (σ := q136) rfl (by decide) (am_bi_cpy h143) ?_
                                                                          refine go_n 2 (f := (210, [some (.ref x0), some (.ref x1)], [.ref x1, .ref x0], q144)) rfl ?_
                                                                          obtain ⟨h145, hf⟩ := grd hf
                                                                          refine go_get rfl rfl rfl h145 ?_
                                                                          obtain ⟨h146, hf⟩ := grd hf
                                                                          refine go_puti rfl rfl rfl h146 rfl rfl rfl ?_
                                                                          refine go_n 2 (f := (218, [some (.ref x0), some (.ref x1)], [.ref x1, .ref x0], (wi q144 x0 18 (gi q144 x1 18)))) rfl ?_
                                                                          obtain ⟨h147, hf⟩ := grd hf
                                                                          refine go_get rfl rfl rfl h147 ?_
                                                                          rw [show am_rf true (wi q144 x0 18 (gi q144 x1 18)) x1 19 0 = .int (gi (wi q144 x0 18 (gi q144 x1 18)) x1 19) from by simp [am_rf, gi, gl, wi, wl, wr]]
                                                                          obtain ⟨h148, hf⟩ := grd hf
                                                                          refine go_puti rfl rfl rfl h148 rfl rfl rfl ?_
                                                                          cases hf
                                                                          exact go_r rfl
/-! OldWeather.image(I)I -/
def fX0_image_J37 (x1 : Int32)  (σ : Sg) : Option (Int32 × Sg) :=
  if inb x1 3 then (match (gr σ 24 x1.toNatClampNeg) with
  | some a9 => if (kk σ a9) = 11 then (fX1_takes a9 1 σ).bind fun q13 => (fX0_done 0 q13).bind fun q15 => some (q15.1, q15.2) else none
  | none => none) else none
set_option maxHeartbeats 1500000 in
theorem fX0_image_J37_ok (x1 : Int32)  (σ : Sg)  (r : (Int32 × Sg)) (hf : fX0_image_J37 x1  σ = some r) : Go true 6 iX0_image (37, [some (.ref 0), some (.int x1)], [], σ) (.inl (some (.int (r).1)), (r).2) := by
  unfold fX0_image_J37 at hf
  refine go_n 3 (f := (42, [some (.ref 0), some (.int x1)], [.int x1, .ref 24], σ)) rfl ?_
  obtain ⟨h8, hf⟩ := grd hf
  refine go_aald rfl rfl (Or.inr rfl) h8 ?_
  show Go true 6 iX0_image (43, [some (.ref 0), some (.int x1)], va_rf (gr σ 24 x1.toNatClampNeg) :: [], σ) _
  generalize hR11 : (gr σ 24 x1.toNatClampNeg) = h10 at hf ⊢
  cases h10 with
  | none =>
    cases hf
  | some a9 =>
    refine go_n 2 (f := (47, [some (.ref 0), some (.int x1)], [.ref 1, .ref a9], σ)) rfl ?_
    obtain ⟨h12, hf⟩ := grd hf
    obtain ⟨q13, h14, hf⟩ := bnd hf
    refine go_c (mid := 5377) (args := [.ref a9, .ref 1]) (pc := 50) (L := [some (.ref 0), some (.int x1)]) (st := []) (σ := σ) (stp_callV1 (n := 2) rfl rfl rfl ⟨Nat.le_of_ble_eq_true rfl, Nat.le_of_ble_eq_true rfl⟩ rfl h12 rfl) ((fX1_takes_ok _ _ _ q13 h14).deep (Nat.le_of_ble_eq_true rfl)) ?_
    refine go_n 2 (f := (52, [some (.ref 0), some (.int x1)], [.int 0, .ref 0], q13)) rfl ?_
    obtain ⟨q15, h16, hf⟩ := bnd hf
    refine go_c (mid := 5134) (args := [.ref 0, .int 0]) (pc := 55) (L := [some (.ref 0), some (.int x1)]) (st := []) (σ := q13) rfl ((fX0_done_ok _ _ q15 h16).deep (Nat.le_of_ble_eq_true rfl)) ?_
    cases hf
    exact go_r rfl
def fX0_image (x1 : Int32) (σ : Sg) : Option (Int32 × Sg) :=
  (fX0_in x1 0 2).bind fun q1 => if q1 ≠ 0 then if inb x1 3 then (match (gr σ 24 x1.toNatClampNeg) with
  | some a5 => fX0_image_J37 x1  σ
  | none => (am_new σ (11, 0) 20).bind fun σ18 => (fX1_init (gz σ) σ18).bind fun q19 => if (kk q19 24) = 5 ∧ 10 ≤ (kk q19 (gz σ)) ∨ (kk q19 24) = 6 ∧ (kk q19 (gz σ)) = 11 then if inb x1 3 then fX0_image_J37 x1  (wr q19 24 x1.toNatClampNeg (some (gz σ))) else none else none) else none else (fX0_refuse (-1) σ).bind fun q23 => some (q23.1, q23.2)
set_option maxHeartbeats 1500000 in
theorem fX0_image_ok (x1 : Int32) (σ : Sg) (r : (Int32 × Sg)) (hf : fX0_image x1 σ = some r) : Cl true 6 5132 [.ref 0, .int x1] σ (.inl (some (.int (r).1)), (r).2) := by
  refine ⟨iX0_image, rfl, Nat.le_of_ble_eq_true rfl, Nat.le_of_ble_eq_true rfl, ?_⟩
  show Go true 6 iX0_image (0, [some (.ref 0), some (.int x1)], [], σ) (.inl (some (.int (r).1)), (r).2)
  unfold fX0_image at hf
  refine go_n 3 (f := (3, [some (.ref 0), some (.int x1)], [.int 2, .int 0, .int x1], σ)) rfl ?_
  obtain ⟨q1, h2, hf⟩ := bnd hf
  refine go_c (mid := 5122) (args := [.int x1, .int 0, .int 2]) (pc := 6) (L := [some (.ref 0), some (.int x1)]) (st := []) (σ := σ) rfl ((fX0_in_ok _ _ _ _ q1 h2).deep (Nat.le_of_ble_eq_true rfl)) ?_
  by_cases h3 : q1 ≠ 0
  · rw [if_pos h3] at hf
    refine go_it (t := 15) (f := 9) (L1 := [some (.ref 0), some (.int x1)]) (st1 := []) (σ1 := σ) rfl h3 ?_
    refine go_n 3 (f := (20, [some (.ref 0), some (.int x1)], [.int x1, .ref 24], σ)) rfl ?_
    obtain ⟨h4, hf⟩ := grd hf
    refine go_aald rfl rfl (Or.inr rfl) h4 ?_
    show Go true 6 iX0_image (21, [some (.ref 0), some (.int x1)], va_rf (gr σ 24 x1.toNatClampNeg) :: [], σ) _
    generalize hR7 : (gr σ 24 x1.toNatClampNeg) = h6 at hf ⊢
    cases h6 with
    | none =>
      refine go_n 4 (f := (29, [some (.ref 0), some (.int x1)], [.int x1, .ref 24], σ)) rfl ?_
      obtain ⟨σ18, h17, hf⟩ := bnd hf
      refine go_new rfl rfl rfl h17 ?_
      refine go_n 1 (f := (33, [some (.ref 0), some (.int x1)], [.ref (gz σ), .ref (gz σ), .int x1, .ref 24], σ18)) rfl ?_
      obtain ⟨q19, h20, hf⟩ := bnd hf
      refine go_c (mid := 5376) (args := [.ref (gz σ)]) (pc := 36) (L := [some (.ref 0), some (.int x1)]) (st := [.ref (gz σ), .int x1, .ref 24]) (σ := σ18) rfl ((fX1_init_ok _ _ q19 h20).deep (Nat.le_of_ble_eq_true rfl)) ?_
      obtain ⟨h22, hf⟩ := grd hf
      obtain ⟨h21, hf⟩ := grd hf
      refine go_aast rfl rfl h22 h21 ?_
      exact fX0_image_J37_ok _  _  _ hf
    | some a5 =>
      refine go_n 1 (f := (37, [some (.ref 0), some (.int x1)], [], σ)) rfl ?_
      exact fX0_image_J37_ok _  _  _ hf
  · rw [if_neg h3] at hf
    refine go_if (t := 15) (f := 9) (L1 := [some (.ref 0), some (.int x1)]) (st1 := []) (σ1 := σ) rfl h3 ?_
    refine go_n 2 (f := (11, [some (.ref 0), some (.int x1)], [.int (-1), .ref 0], σ)) rfl ?_
    obtain ⟨q23, h24, hf⟩ := bnd hf
    refine go_c (mid := 5133) (args := [.ref 0, .int (-1)]) (pc := 14) (L := [some (.ref 0), some (.int x1)]) (st := []) (σ := σ) rfl ((fX0_refuse_ok _ _ q23 h24).deep (Nat.le_of_ble_eq_true rfl)) ?_
    cases hf
    exact go_r rfl
/-! OldWeather.back(I)I -/
def fX0_back (x1 : Int32) (σ : Sg) : Option (Int32 × Sg) :=
  (fX0_in x1 0 2).bind fun q1 => if q1 ≠ 0 then if inb x1 3 then (match (gr σ 24 x1.toNatClampNeg) with
  | some a5 => if inb x1 3 then (fX1_takes 1 a5 σ).bind fun q11 => (fX0_told 0 q11).bind fun q13 => some (q13.1, q13.2) else none
  | none => (fX0_refuse (-2) σ).bind fun q15 => some (q15.1, q15.2)) else none else (fX0_refuse (-1) σ).bind fun q17 => some (q17.1, q17.2)
set_option maxHeartbeats 1500000 in
theorem fX0_back_ok (x1 : Int32) (σ : Sg) (r : (Int32 × Sg)) (hf : fX0_back x1 σ = some r) : Cl true 6 5135 [.ref 0, .int x1] σ (.inl (some (.int (r).1)), (r).2) := by
  refine ⟨iX0_back, rfl, Nat.le_of_ble_eq_true rfl, Nat.le_of_ble_eq_true rfl, ?_⟩
  show Go true 6 iX0_back (0, [some (.ref 0), some (.int x1)], [], σ) (.inl (some (.int (r).1)), (r).2)
  unfold fX0_back at hf
  refine go_n 3 (f := (3, [some (.ref 0), some (.int x1)], [.int 2, .int 0, .int x1], σ)) rfl ?_
  obtain ⟨q1, h2, hf⟩ := bnd hf
  refine go_c (mid := 5122) (args := [.int x1, .int 0, .int 2]) (pc := 6) (L := [some (.ref 0), some (.int x1)]) (st := []) (σ := σ) rfl ((fX0_in_ok _ _ _ _ q1 h2).deep (Nat.le_of_ble_eq_true rfl)) ?_
  by_cases h3 : q1 ≠ 0
  · rw [if_pos h3] at hf
    refine go_it (t := 15) (f := 9) (L1 := [some (.ref 0), some (.int x1)]) (st1 := []) (σ1 := σ) rfl h3 ?_
    refine go_n 3 (f := (20, [some (.ref 0), some (.int x1)], [.int x1, .ref 24], σ)) rfl ?_
    obtain ⟨h4, hf⟩ := grd hf
    refine go_aald rfl rfl (Or.inr rfl) h4 ?_
    show Go true 6 iX0_back (21, [some (.ref 0), some (.int x1)], va_rf (gr σ 24 x1.toNatClampNeg) :: [], σ) _
    generalize hR7 : (gr σ 24 x1.toNatClampNeg) = h6 at hf ⊢
    cases h6 with
    | none =>
      refine go_n 3 (f := (27, [some (.ref 0), some (.int x1)], [.int (-2), .ref 0], σ)) rfl ?_
      obtain ⟨q15, h16, hf⟩ := bnd hf
      refine go_c (mid := 5133) (args := [.ref 0, .int (-2)]) (pc := 30) (L := [some (.ref 0), some (.int x1)]) (st := []) (σ := σ) rfl ((fX0_refuse_ok _ _ q15 h16).deep (Nat.le_of_ble_eq_true rfl)) ?_
      cases hf
      exact go_r rfl
    | some a5 =>
      refine go_n 6 (f := (40, [some (.ref 0), some (.int x1)], [.int x1, .ref 24, .ref 1], σ)) rfl ?_
      obtain ⟨h8, hf⟩ := grd hf
      refine go_aald rfl rfl (Or.inr rfl) h8 ?_
      show Go true 6 iX0_back (41, [some (.ref 0), some (.int x1)], va_rf (gr σ 24 x1.toNatClampNeg) :: [.ref 1], σ) _
      rw [hR7]
      obtain ⟨q11, h12, hf⟩ := bnd hf
      refine go_c (mid := 5377) (args := [.ref 1, .ref a5]) (pc := 44) (L := [some (.ref 0), some (.int x1)]) (st := []) (σ := σ) rfl ((fX1_takes_ok _ _ _ q11 h12).deep (Nat.le_of_ble_eq_true rfl)) ?_
      refine go_n 2 (f := (46, [some (.ref 0), some (.int x1)], [.int 0, .ref 0], q11)) rfl ?_
      obtain ⟨q13, h14, hf⟩ := bnd hf
      refine go_c (mid := 5136) (args := [.ref 0, .int 0]) (pc := 49) (L := [some (.ref 0), some (.int x1)]) (st := []) (σ := q11) rfl ((fX0_told_ok _ _ q13 h14).deep (Nat.le_of_ble_eq_true rfl)) ?_
      cases hf
      exact go_r rfl
  · rw [if_neg h3] at hf
    refine go_if (t := 15) (f := 9) (L1 := [some (.ref 0), some (.int x1)]) (st1 := []) (σ1 := σ) rfl h3 ?_
    refine go_n 2 (f := (11, [some (.ref 0), some (.int x1)], [.int (-1), .ref 0], σ)) rfl ?_
    obtain ⟨q17, h18, hf⟩ := bnd hf
    refine go_c (mid := 5133) (args := [.ref 0, .int (-1)]) (pc := 14) (L := [some (.ref 0), some (.int x1)]) (st := []) (σ := σ) rfl ((fX0_refuse_ok _ _ q17 h18).deep (Nat.le_of_ble_eq_true rfl)) ?_
    cases hf
    exact go_r rfl
/-! OldWeather.word(IIIIII)I -/
def fX0_word_J26 (x1 : Int32) (x2 : Int32) (x3 : Int32) (x4 : Int32) (x5 : Int32) (x6 : Int32) (s0 : Int32)  (σ : Sg) : Option (Int32 × Sg) :=
  if 0 ≤ s0 then (am_new σ (17, 0) 6).bind fun σ8 => (fJ2_size 2 σ8).bind fun q9 => (fX9_init (gz σ) q9 x1 x2 x3 x4 x6 σ8).bind fun q11 => (fX0_puts (gz σ) x5 q11).bind fun q13 => some (q13.1, q13.2) else (fX0_refuse s0 σ).bind fun q15 => some (q15.1, q15.2)
set_option maxHeartbeats 1500000 in
theorem fX0_word_J26_ok (x1 : Int32) (x2 : Int32) (x3 : Int32) (x4 : Int32) (x5 : Int32) (x6 : Int32) (s0 : Int32)  (σ : Sg)  (r : (Int32 × Sg)) (hf : fX0_word_J26 x1 x2 x3 x4 x5 x6 s0  σ = some r) : Go true 7 iX0_word (26, [some (.ref 0), some (.int x1), some (.int x2), some (.int x3), some (.int x4), some (.int x5), some (.int x6), none], [.int s0], σ) (.inl (some (.int (r).1)), (r).2) := by
  unfold fX0_word_J26 at hf
  refine go_n 2 (f := (30, [some (.ref 0), some (.int x1), some (.int x2), some (.int x3), some (.int x4), some (.int x5), some (.int x6), some (.int s0)], [.int s0], σ)) rfl ?_
  by_cases h6 : 0 ≤ s0
  · rw [if_pos h6] at hf
    refine go_it (t := 42) (f := 33) (L1 := [some (.ref 0), some (.int x1), some (.int x2), some (.int x3), some (.int x4), some (.int x5), some (.int x6), some (.int s0)]) (st1 := []) (σ1 := σ) rfl h6 ?_
    refine go_n 1 (f := (43, [some (.ref 0), some (.int x1), some (.int x2), some (.int x3), some (.int x4), some (.int x5), some (.int x6), some (.int s0)], [.ref 0], σ)) rfl ?_
    obtain ⟨σ8, h7, hf⟩ := bnd hf
    refine go_new rfl rfl rfl h7 ?_
    refine go_n 4 (f := (54, [some (.ref 0), some (.int x1), some (.int x2), some (.int x3), some (.int x4), some (.int x5), some (.int x6), some (.int s0)], [.ref 2, .ref (gz σ), .ref (gz σ), .ref 0], σ8)) rfl ?_
    obtain ⟨q9, h10, hf⟩ := bnd hf
    refine go_c (mid := 2821) (args := [.ref 2]) (pc := 57) (L := [some (.ref 0), some (.int x1), some (.int x2), some (.int x3), some (.int x4), some (.int x5), some (.int x6), some (.int s0)]) (st := [.ref (gz σ), .ref (gz σ), .ref 0]) (σ := σ8) rfl ((fJ2_size_ok _ _ q9 h10).deep (Nat.le_of_ble_eq_true rfl)) ?_
    refine go_n 5 (f := (64, [some (.ref 0), some (.int x1), some (.int x2), some (.int x3), some (.int x4), some (.int x5), some (.int x6), some (.int s0)], [.int x6, .int x4, .int x3, .int x2, .int x1, .int q9, .ref (gz σ), .ref (gz σ), .ref 0], σ8)) rfl ?_
    obtain ⟨q11, h12, hf⟩ := bnd hf
    refine go_c (mid := 12544) (args := [.ref (gz σ), .int q9, .int x1, .int x2, .int x3, .int x4, .int x6]) (pc := 67) (L := [some (.ref 0), some (.int x1), some (.int x2), some (.int x3), some (.int x4), some (.int x5), some (.int x6), some (.int s0)]) (st := [.ref (gz σ), .ref 0]) (σ := σ8) rfl ((fX9_init_ok _ _ _ _ _ _ _ _ q11 h12).deep (Nat.le_of_ble_eq_true rfl)) ?_
    refine go_n 1 (f := (69, [some (.ref 0), some (.int x1), some (.int x2), some (.int x3), some (.int x4), some (.int x5), some (.int x6), some (.int s0)], [.int x5, .ref (gz σ), .ref 0], q11)) rfl ?_
    obtain ⟨q13, h14, hf⟩ := bnd hf
    refine go_c (mid := 5148) (args := [.ref 0, .ref (gz σ), .int x5]) (pc := 72) (L := [some (.ref 0), some (.int x1), some (.int x2), some (.int x3), some (.int x4), some (.int x5), some (.int x6), some (.int s0)]) (st := []) (σ := q11) rfl ((fX0_puts_ok _ _ _ q13 h14).deep (Nat.le_of_ble_eq_true rfl)) ?_
    refine go_e (L1 := [none, none, none, none, none, none, none, none]) rfl rfl ?_
    cases hf
    exact go_r rfl
  · rw [if_neg h6] at hf
    refine go_if (t := 42) (f := 33) (L1 := [some (.ref 0), some (.int x1), some (.int x2), some (.int x3), some (.int x4), some (.int x5), some (.int x6), some (.int s0)]) (st1 := []) (σ1 := σ) rfl h6 ?_
    refine go_n 2 (f := (36, [some (.ref 0), some (.int x1), some (.int x2), some (.int x3), some (.int x4), some (.int x5), some (.int x6), some (.int s0)], [.int s0, .ref 0], σ)) rfl ?_
    obtain ⟨q15, h16, hf⟩ := bnd hf
    refine go_c (mid := 5133) (args := [.ref 0, .int s0]) (pc := 39) (L := [some (.ref 0), some (.int x1), some (.int x2), some (.int x3), some (.int x4), some (.int x5), some (.int x6), some (.int s0)]) (st := []) (σ := σ) rfl ((fX0_refuse_ok _ _ q15 h16).deep (Nat.le_of_ble_eq_true rfl)) ?_
    refine go_n 1 (f := (72, [some (.ref 0), some (.int x1), some (.int x2), some (.int x3), some (.int x4), some (.int x5), some (.int x6), some (.int s0)], [.int q15.1], q15.2)) rfl ?_
    refine go_e (L1 := [none, none, none, none, none, none, none, none]) rfl rfl ?_
    cases hf
    exact go_r rfl
def fX0_word (x1 : Int32) (x2 : Int32) (x3 : Int32) (x4 : Int32) (x5 : Int32) (x6 : Int32) (σ : Sg) : Option (Int32 × Sg) :=
  (fX0_in x5 0 19).bind fun q1 => if q1 ≠ 0 then (fX0_lacks x1 x2 x3 x4 x6 σ).bind fun q4 => fX0_word_J26 x1 x2 x3 x4 x5 x6 q4  σ else fX0_word_J26 x1 x2 x3 x4 x5 x6 (-1)  σ
set_option maxHeartbeats 1500000 in
theorem fX0_word_ok (x1 : Int32) (x2 : Int32) (x3 : Int32) (x4 : Int32) (x5 : Int32) (x6 : Int32) (σ : Sg) (r : (Int32 × Sg)) (hf : fX0_word x1 x2 x3 x4 x5 x6 σ = some r) : Cl true 7 5145 [.ref 0, .int x1, .int x2, .int x3, .int x4, .int x5, .int x6] σ (.inl (some (.int (r).1)), (r).2) := by
  refine ⟨iX0_word, rfl, Nat.le_of_ble_eq_true rfl, Nat.le_of_ble_eq_true rfl, ?_⟩
  show Go true 7 iX0_word (0, [some (.ref 0), some (.int x1), some (.int x2), some (.int x3), some (.int x4), some (.int x5), some (.int x6), none], [], σ) (.inl (some (.int (r).1)), (r).2)
  unfold fX0_word at hf
  refine go_n 3 (f := (5, [some (.ref 0), some (.int x1), some (.int x2), some (.int x3), some (.int x4), some (.int x5), some (.int x6), none], [.int 19, .int 0, .int x5], σ)) rfl ?_
  obtain ⟨q1, h2, hf⟩ := bnd hf
  refine go_c (mid := 5122) (args := [.int x5, .int 0, .int 19]) (pc := 8) (L := [some (.ref 0), some (.int x1), some (.int x2), some (.int x3), some (.int x4), some (.int x5), some (.int x6), none]) (st := []) (σ := σ) rfl ((fX0_in_ok _ _ _ _ q1 h2).deep (Nat.le_of_ble_eq_true rfl)) ?_
  by_cases h3 : q1 ≠ 0
  · rw [if_pos h3] at hf
    refine go_it (t := 15) (f := 11) (L1 := [some (.ref 0), some (.int x1), some (.int x2), some (.int x3), some (.int x4), some (.int x5), some (.int x6), none]) (st1 := []) (σ1 := σ) rfl h3 ?_
    refine go_n 6 (f := (23, [some (.ref 0), some (.int x1), some (.int x2), some (.int x3), some (.int x4), some (.int x5), some (.int x6), none], [.int x6, .int x4, .int x3, .int x2, .int x1, .ref 0], σ)) rfl ?_
    obtain ⟨q4, h5, hf⟩ := bnd hf
    refine go_c (mid := 5146) (args := [.ref 0, .int x1, .int x2, .int x3, .int x4, .int x6]) (pc := 26) (L := [some (.ref 0), some (.int x1), some (.int x2), some (.int x3), some (.int x4), some (.int x5), some (.int x6), none]) (st := []) (σ := σ) rfl ((fX0_lacks_ok _ _ _ _ _ _ q4 h5).deep (Nat.le_of_ble_eq_true rfl)) ?_
    exact fX0_word_J26_ok _ _ _ _ _ _ _  _  _ hf
  · rw [if_neg h3] at hf
    refine go_if (t := 15) (f := 11) (L1 := [some (.ref 0), some (.int x1), some (.int x2), some (.int x3), some (.int x4), some (.int x5), some (.int x6), none]) (st1 := []) (σ1 := σ) rfl h3 ?_
    refine go_n 2 (f := (26, [some (.ref 0), some (.int x1), some (.int x2), some (.int x3), some (.int x4), some (.int x5), some (.int x6), none], [.int (-1)], σ)) rfl ?_
    exact fX0_word_J26_ok _ _ _ _ _ _ _  _  _ hf
/-! OldWeather.row(IIIIII)I -/
def fX0_row_J41   (σ : Sg) : Option (Int32 × Sg) :=
  (fX0_refuse (-1) σ).bind fun q4 => some (q4.1, q4.2)
set_option maxHeartbeats 1500000 in
theorem fX0_row_J41_ok   (σ : Sg)  (r : (Int32 × Sg)) (hf : fX0_row_J41   σ = some r) : Go true 8 iX0_row (41, [some (.ref 0), none, none, none, none, none, none, none, none, none, none, none, none, none, none], [], σ) (.inl (some (.int (r).1)), (r).2) := by
  unfold fX0_row_J41 at hf
  refine go_n 2 (f := (43, [some (.ref 0), none, none, none, none, none, none, none, none, none, none, none, none, none, none], [.int (-1), .ref 0], σ)) rfl ?_
  obtain ⟨q4, h5, hf⟩ := bnd hf
  refine go_c (mid := 5133) (args := [.ref 0, .int (-1)]) (pc := 46) (L := [some (.ref 0), none, none, none, none, none, none, none, none, none, none, none, none, none, none]) (st := []) (σ := σ) rfl ((fX0_refuse_ok _ _ q4 h5).deep (Nat.le_of_ble_eq_true rfl)) ?_
  cases hf
  exact go_r rfl
def fX0_row_J275 (x12 : Int32)  (σ : Sg) : Option (Int32 × Sg) :=
  (fX0_told x12 σ).bind fun q27 => some (q27.1, q27.2)
set_option maxHeartbeats 1500000 in
theorem fX0_row_J275_ok (x12 : Int32)  (σ : Sg)  (r : (Int32 × Sg)) (hf : fX0_row_J275 x12  σ = some r) : Go true 8 iX0_row (275, [some (.ref 0), none, none, none, none, none, none, none, none, none, none, none, some (.int x12), none, none], [], σ) (.inl (some (.int (r).1)), (r).2) := by
  unfold fX0_row_J275 at hf
  refine go_n 2 (f := (278, [some (.ref 0), none, none, none, none, none, none, none, none, none, none, none, some (.int x12), none, none], [.int x12, .ref 0], σ)) rfl ?_
  obtain ⟨q27, h28, hf⟩ := bnd hf
  refine go_c (mid := 5136) (args := [.ref 0, .int x12]) (pc := 281) (L := [some (.ref 0), none, none, none, none, none, none, none, none, none, none, none, some (.int x12), none, none]) (st := []) (σ := σ) rfl ((fX0_told_ok _ _ q27 h28).deep (Nat.le_of_ble_eq_true rfl)) ?_
  cases hf
  exact go_r rfl
def fX0_row_J250 (x12 : Int32)  (σ : Sg) : Option (Int32 × Sg) :=
  fX0_row_J275 x12  σ
set_option maxHeartbeats 1500000 in
theorem fX0_row_J250_ok (x12 : Int32)  (σ : Sg)  (r : (Int32 × Sg)) (hf : fX0_row_J250 x12  σ = some r) : Go true 8 iX0_row (250, [some (.ref 0), none, none, none, none, none, none, none, none, none, none, none, some (.int x12), none, none], [], σ) (.inl (some (.int (r).1)), (r).2) := by
  unfold fX0_row_J250 at hf
  refine go_n 1 (f := (275, [some (.ref 0), none, none, none, none, none, none, none, none, none, none, none, some (.int x12), none, none], [], σ)) rfl ?_
  exact fX0_row_J275_ok _  _  _ hf
def fX0_row_L133 (x1 : Int32) (x5 : Int32) (x6 : Int32) (x8 : Nat)  (rec133 : (Int32 × Int32 × Int32 × Int32 × Sg) → Option (Int32 × Sg)) (s : Int32 × Int32 × Int32 × Int32 × Sg) : Option (Int32 × Sg) :=
  match s with
  | (x9, x10, x11, x12, σ) => if (kk σ x8) = 22 then (fX14_isEnd x8 σ).bind fun q24 => if q24 ≠ 0 then fX0_row_J250 x12  σ else if 1901 < x9 then fX0_row_J250 x12  σ else if (kk σ x8) = 22 then ((fX14_next x8 σ).bind fun q31 => match q31 with
  | (.inl v33, τ34) => (fX0_tenths v33).bind fun q36 => if (kk τ34 x8) = 22 then ((fX14_next x8 τ34).bind fun q39 => match q39 with
  | (.inl v41, τ42) => (fX0_tenths v41).bind fun q44 => (fX0_keeps x1 x9 x10 x11 x6 q36 τ42).bind fun q46 => (fX0_keeps x1 x9 x10 x11 x6 q44 q46.2).bind fun q48 => (fX0_daysOf x9 x10 x5).bind fun q50 => ((fun (z54 : Int32) (z55 : Int32) (z56 : Int32) => rec133 (z54, z55, z56, (x12 + (q46.1 + q48.1)), q48.2)) (if q50 < (x11 + 1) then (if 12 < (x10 + 1) then (x9 + 1) else x9) else x9) (if q50 < (x11 + 1) then (if 12 < (x10 + 1) then 1 else (x10 + 1)) else x10) (if q50 < (x11 + 1) then 1 else (x11 + 1)))
  | (.inr (ec, ea), τ42) => if ec = 3 then (fX0_dayAt x9 x10 x11 x5).bind fun q58 => if inb x1 16 then fX0_row_J275 x12  (wi (bmp τ42) 17 x1.toNatClampNeg q58) else none else none) else none
  | (.inr (ec, ea), τ34) => if ec = 3 then (fX0_dayAt x9 x10 x11 x5).bind fun q62 => if inb x1 16 then fX0_row_J275 x12  (wi (bmp τ34) 17 x1.toNatClampNeg q62) else none else none) else none else none
set_option maxHeartbeats 1500000 in
theorem fX0_row_L133_ok (x1 : Int32) (x5 : Int32) (x6 : Int32) (x8 : Nat)   : ∀ (n : Nat) (x9 : Int32) (x10 : Int32) (x11 : Int32) (x12 : Int32) (σ : Sg) (r : (Int32 × Sg)), lp (fX0_row_L133 x1 x5 x6 x8 ) n (x9, x10, x11, x12, σ) = some r → Go true 8 iX0_row (133, [some (.ref 0), some (.int x1), none, none, none, some (.int x5), some (.int x6), none, some (.ref x8), some (.int x9), some (.int x10), some (.int x11), some (.int x12), none, none], [], σ) (.inl (some (.int (r).1)), (r).2) := by
  intro n
  induction n with
  | zero => intro x9 x10 x11 x12 σ r hf; cases hf
  | succ n ih =>
    intro x9 x10 x11 x12 σ r hf
    have hf : fX0_row_L133 x1 x5 x6 x8  (lp (fX0_row_L133 x1 x5 x6 x8 ) n) (x9, x10, x11, x12, σ) = some r := hf
    have hrec133 := ih
    generalize lp (fX0_row_L133 x1 x5 x6 x8 ) n = rec133 at hf hrec133
    unfold fX0_row_L133 at hf
    dsimp only at hf
    refine go_n 1 (f := (135, [some (.ref 0), some (.int x1), none, none, none, some (.int x5), some (.int x6), none, some (.ref x8), some (.int x9), some (.int x10), some (.int x11), some (.int x12), none, none], [.ref x8], σ)) rfl ?_
    obtain ⟨h23, hf⟩ := grd hf
    obtain ⟨q24, h25, hf⟩ := bnd hf
    refine go_c (mid := 6657) (args := [.ref x8]) (pc := 138) (L := [some (.ref 0), some (.int x1), none, none, none, some (.int x5), some (.int x6), none, some (.ref x8), some (.int x9), some (.int x10), some (.int x11), some (.int x12), none, none]) (st := []) (σ := σ) (stp_callV1 (n := 1) rfl rfl rfl ⟨Nat.le_of_ble_eq_true rfl, Nat.le_of_ble_eq_true rfl⟩ rfl h23 rfl) ((fX14_isEnd_ok _ _ q24 h25).deep (Nat.le_of_ble_eq_true rfl)) ?_
    by_cases h26 : q24 ≠ 0
    · rw [if_pos h26] at hf
      refine go_it (t := 250) (f := 141) (L1 := [some (.ref 0), some (.int x1), none, none, none, some (.int x5), some (.int x6), none, some (.ref x8), some (.int x9), some (.int x10), some (.int x11), some (.int x12), none, none]) (st1 := []) (σ1 := σ) rfl h26 ?_
      refine go_e (L1 := [some (.ref 0), none, none, none, none, none, none, none, none, none, none, none, some (.int x12), none, none]) rfl rfl ?_
      exact fX0_row_J250_ok _  _  _ hf
    · rw [if_neg h26] at hf
      refine go_if (t := 250) (f := 141) (L1 := [some (.ref 0), some (.int x1), none, none, none, some (.int x5), some (.int x6), none, some (.ref x8), some (.int x9), some (.int x10), some (.int x11), some (.int x12), none, none]) (st1 := []) (σ1 := σ) rfl h26 ?_
      refine go_n 2 (f := (146, [some (.ref 0), some (.int x1), none, none, none, some (.int x5), some (.int x6), none, some (.ref x8), some (.int x9), some (.int x10), some (.int x11), some (.int x12), none, none], [.int 1901, .int x9], σ)) rfl ?_
      by_cases h29 : 1901 < x9
      · rw [if_pos h29] at hf
        refine go_it (t := 250) (f := 149) (L1 := [some (.ref 0), some (.int x1), none, none, none, some (.int x5), some (.int x6), none, some (.ref x8), some (.int x9), some (.int x10), some (.int x11), some (.int x12), none, none]) (st1 := []) (σ1 := σ) rfl h29 ?_
        refine go_e (L1 := [some (.ref 0), none, none, none, none, none, none, none, none, none, none, none, some (.int x12), none, none]) rfl rfl ?_
        exact fX0_row_J250_ok _  _  _ hf
      · rw [if_neg h29] at hf
        refine go_if (t := 250) (f := 149) (L1 := [some (.ref 0), some (.int x1), none, none, none, some (.int x5), some (.int x6), none, some (.ref x8), some (.int x9), some (.int x10), some (.int x11), some (.int x12), none, none]) (st1 := []) (σ1 := σ) rfl h29 ?_
        refine go_n 1 (f := (151, [some (.ref 0), some (.int x1), none, none, none, some (.int x5), some (.int x6), none, some (.ref x8), some (.int x9), some (.int x10), some (.int x11), some (.int x12), none, none], [.ref x8], σ)) rfl ?_
        obtain ⟨h30, hf⟩ := grd hf
        obtain ⟨⟨v33 | ⟨ec, ea⟩, τ34⟩, h32, hf⟩ := bnd hf
        · try dsimp only at hf
          refine go_c (mid := 6658) (args := [.ref x8]) (pc := 154) (L := [some (.ref 0), some (.int x1), none, none, none, some (.int x5), some (.int x6), none, some (.ref x8), some (.int x9), some (.int x10), some (.int x11), some (.int x12), none, none]) (st := []) (σ := σ) (stp_callV1 (n := 1) rfl rfl rfl ⟨Nat.le_of_ble_eq_true rfl, Nat.le_of_ble_eq_true rfl⟩ rfl h30 rfl) ((fX14_next_ok _ _ _ h32).deep (Nat.le_of_ble_eq_true rfl)) ?_
          obtain ⟨q36, h37, hf⟩ := bnd hf
          refine go_c (mid := 5156) (args := [.float v33]) (pc := 157) (L := [some (.ref 0), some (.int x1), none, none, none, some (.int x5), some (.int x6), none, some (.ref x8), some (.int x9), some (.int x10), some (.int x11), some (.int x12), none, none]) (st := []) (σ := τ34) rfl ((fX0_tenths_ok _ _ q36 h37).deep (Nat.le_of_ble_eq_true rfl)) ?_
          refine go_n 2 (f := (161, [some (.ref 0), some (.int x1), none, none, none, some (.int x5), some (.int x6), none, some (.ref x8), some (.int x9), some (.int x10), some (.int x11), some (.int x12), some (.int q36), none], [.ref x8], τ34)) rfl ?_
          obtain ⟨h38, hf⟩ := grd hf
          obtain ⟨⟨v41 | ⟨ec, ea⟩, τ42⟩, h40, hf⟩ := bnd hf
          · try dsimp only at hf
            refine go_c (mid := 6658) (args := [.ref x8]) (pc := 164) (L := [some (.ref 0), some (.int x1), none, none, none, some (.int x5), some (.int x6), none, some (.ref x8), some (.int x9), some (.int x10), some (.int x11), some (.int x12), some (.int q36), none]) (st := []) (σ := τ34) (stp_callV1 (n := 1) rfl rfl rfl ⟨Nat.le_of_ble_eq_true rfl, Nat.le_of_ble_eq_true rfl⟩ rfl h38 rfl) ((fX14_next_ok _ _ _ h40).deep (Nat.le_of_ble_eq_true rfl)) ?_
            obtain ⟨q44, h45, hf⟩ := bnd hf
            refine go_c (mid := 5156) (args := [.float v41]) (pc := 167) (L := [some (.ref 0), some (.int x1), none, none, none, some (.int x5), some (.int x6), none, some (.ref x8), some (.int x9), some (.int x10), some (.int x11), some (.int x12), some (.int q36), none]) (st := []) (σ := τ42) rfl ((fX0_tenths_ok _ _ q44 h45).deep (Nat.le_of_ble_eq_true rfl)) ?_
            refine go_n 9 (f := (183, [some (.ref 0), some (.int x1), none, none, none, some (.int x5), some (.int x6), none, some (.ref x8), some (.int x9), some (.int x10), some (.int x11), some (.int x12), some (.int q36), some (.int q44)], [.int q36, .int x6, .int x11, .int x10, .int x9, .int x1, .ref 0, .int x12], τ42)) rfl ?_
            obtain ⟨q46, h47, hf⟩ := bnd hf
            refine go_c (mid := 5157) (args := [.ref 0, .int x1, .int x9, .int x10, .int x11, .int x6, .int q36]) (pc := 186) (L := [some (.ref 0), some (.int x1), none, none, none, some (.int x5), some (.int x6), none, some (.ref x8), some (.int x9), some (.int x10), some (.int x11), some (.int x12), some (.int q36), some (.int q44)]) (st := [.int x12]) (σ := τ42) rfl ((fX0_keeps_ok _ _ _ _ _ _ _ q46 h47).deep (Nat.le_of_ble_eq_true rfl)) ?_
            refine go_n 7 (f := (198, [some (.ref 0), some (.int x1), none, none, none, some (.int x5), some (.int x6), none, some (.ref x8), some (.int x9), some (.int x10), some (.int x11), some (.int x12), some (.int q36), some (.int q44)], [.int q44, .int x6, .int x11, .int x10, .int x9, .int x1, .ref 0, .int q46.1, .int x12], q46.2)) rfl ?_
            obtain ⟨q48, h49, hf⟩ := bnd hf
            refine go_c (mid := 5157) (args := [.ref 0, .int x1, .int x9, .int x10, .int x11, .int x6, .int q44]) (pc := 201) (L := [some (.ref 0), some (.int x1), none, none, none, some (.int x5), some (.int x6), none, some (.ref x8), some (.int x9), some (.int x10), some (.int x11), some (.int x12), some (.int q36), some (.int q44)]) (st := [.int q46.1, .int x12]) (σ := q46.2) rfl ((fX0_keeps_ok _ _ _ _ _ _ _ q48 h49).deep (Nat.le_of_ble_eq_true rfl)) ?_
            refine go_n 4 (f := (208, [some (.ref 0), some (.int x1), none, none, none, some (.int x5), some (.int x6), none, some (.ref x8), some (.int x9), some (.int x10), some (.int (x11 + 1)), some (.int (x12 + (q46.1 + q48.1))), some (.int q36), some (.int q44)], [], q48.2)) rfl ?_
            refine go_n 4 (f := (216, [some (.ref 0), some (.int x1), none, none, none, some (.int x5), some (.int x6), none, some (.ref x8), some (.int x9), some (.int x10), some (.int (x11 + 1)), some (.int (x12 + (q46.1 + q48.1))), some (.int q36), some (.int q44)], [.int x5, .int x10, .int x9, .int (x11 + 1)], q48.2)) rfl ?_
            obtain ⟨q50, h51, hf⟩ := bnd hf
            refine go_c (mid := 5124) (args := [.int x9, .int x10, .int x5]) (pc := 219) (L := [some (.ref 0), some (.int x1), none, none, none, some (.int x5), some (.int x6), none, some (.ref x8), some (.int x9), some (.int x10), some (.int (x11 + 1)), some (.int (x12 + (q46.1 + q48.1))), some (.int q36), some (.int q44)]) (st := [.int (x11 + 1)]) (σ := q48.2) rfl ((fX0_daysOf_ok _ _ _ _ q50 h51).deep (Nat.le_of_ble_eq_true rfl)) ?_
            refine go_m (f := (133, [some (.ref 0), some (.int x1), none, none, none, some (.int x5), some (.int x6), none, some (.ref x8), some (.int (if q50 < (x11 + 1) then (if 12 < (x10 + 1) then (x9 + 1) else x9) else x9)), some (.int (if q50 < (x11 + 1) then (if 12 < (x10 + 1) then 1 else (x10 + 1)) else x10)), some (.int (if q50 < (x11 + 1) then 1 else (x11 + 1))), some (.int (x12 + (q46.1 + q48.1))), none, none], [], q48.2)) ?_ (fun hJ57 => ?_)
            · generalize hz54 : (if q50 < (x11 + 1) then (if 12 < (x10 + 1) then (x9 + 1) else x9) else x9) = z54 at hf ⊢
              generalize hz55 : (if q50 < (x11 + 1) then (if 12 < (x10 + 1) then 1 else (x10 + 1)) else x10) = z55 at hf ⊢
              generalize hz56 : (if q50 < (x11 + 1) then 1 else (x11 + 1)) = z56 at hf ⊢
              try dsimp only at hf
              exact hrec133 _ _ _ _ _ _ hf
            · by_cases h52 : q50 < (x11 + 1)
              · refine go_it (t := 225) (f := 222) (L1 := [some (.ref 0), some (.int x1), none, none, none, some (.int x5), some (.int x6), none, some (.ref x8), some (.int x9), some (.int x10), some (.int (x11 + 1)), some (.int (x12 + (q46.1 + q48.1))), some (.int q36), some (.int q44)]) (st1 := []) (σ1 := q48.2) rfl h52 ?_
                refine go_n 3 (f := (231, [some (.ref 0), some (.int x1), none, none, none, some (.int x5), some (.int x6), none, some (.ref x8), some (.int x9), some (.int (x10 + 1)), some (.int 1), some (.int (x12 + (q46.1 + q48.1))), some (.int q36), some (.int q44)], [], q48.2)) rfl ?_
                refine go_n 2 (f := (235, [some (.ref 0), some (.int x1), none, none, none, some (.int x5), some (.int x6), none, some (.ref x8), some (.int x9), some (.int (x10 + 1)), some (.int 1), some (.int (x12 + (q46.1 + q48.1))), some (.int q36), some (.int q44)], [.int 12, .int (x10 + 1)], q48.2)) rfl ?_
                by_cases h53 : 12 < (x10 + 1)
                · refine go_it (t := 241) (f := 238) (L1 := [some (.ref 0), some (.int x1), none, none, none, some (.int x5), some (.int x6), none, some (.ref x8), some (.int x9), some (.int (x10 + 1)), some (.int 1), some (.int (x12 + (q46.1 + q48.1))), some (.int q36), some (.int q44)]) (st1 := []) (σ1 := q48.2) rfl h53 ?_
                  refine go_n 3 (f := (247, [some (.ref 0), some (.int x1), none, none, none, some (.int x5), some (.int x6), none, some (.ref x8), some (.int (x9 + 1)), some (.int 1), some (.int 1), some (.int (x12 + (q46.1 + q48.1))), some (.int q36), some (.int q44)], [], q48.2)) rfl ?_
                  refine go_n 1 (f := (133, [some (.ref 0), some (.int x1), none, none, none, some (.int x5), some (.int x6), none, some (.ref x8), some (.int (x9 + 1)), some (.int 1), some (.int 1), some (.int (x12 + (q46.1 + q48.1))), some (.int q36), some (.int q44)], [], q48.2)) rfl ?_
                  refine go_e (L1 := [some (.ref 0), some (.int x1), none, none, none, some (.int x5), some (.int x6), none, some (.ref x8), some (.int (x9 + 1)), some (.int 1), some (.int 1), some (.int (x12 + (q46.1 + q48.1))), none, none]) rfl rfl ?_
                  simp only [if_pos h52, if_pos h53] at hJ57
                  first | exact hJ57 | (simp only [if_pos h52, if_pos h53]; exact hJ57)
                · refine go_if (t := 241) (f := 238) (L1 := [some (.ref 0), some (.int x1), none, none, none, some (.int x5), some (.int x6), none, some (.ref x8), some (.int x9), some (.int (x10 + 1)), some (.int 1), some (.int (x12 + (q46.1 + q48.1))), some (.int q36), some (.int q44)]) (st1 := []) (σ1 := q48.2) rfl h53 ?_
                  refine go_n 1 (f := (133, [some (.ref 0), some (.int x1), none, none, none, some (.int x5), some (.int x6), none, some (.ref x8), some (.int x9), some (.int (x10 + 1)), some (.int 1), some (.int (x12 + (q46.1 + q48.1))), some (.int q36), some (.int q44)], [], q48.2)) rfl ?_
                  refine go_e (L1 := [some (.ref 0), some (.int x1), none, none, none, some (.int x5), some (.int x6), none, some (.ref x8), some (.int x9), some (.int (x10 + 1)), some (.int 1), some (.int (x12 + (q46.1 + q48.1))), none, none]) rfl rfl ?_
                  simp only [if_pos h52, if_neg h53] at hJ57
                  first | exact hJ57 | (simp only [if_pos h52, if_neg h53]; exact hJ57)
              · refine go_if (t := 225) (f := 222) (L1 := [some (.ref 0), some (.int x1), none, none, none, some (.int x5), some (.int x6), none, some (.ref x8), some (.int x9), some (.int x10), some (.int (x11 + 1)), some (.int (x12 + (q46.1 + q48.1))), some (.int q36), some (.int q44)]) (st1 := []) (σ1 := q48.2) rfl h52 ?_
                refine go_n 1 (f := (133, [some (.ref 0), some (.int x1), none, none, none, some (.int x5), some (.int x6), none, some (.ref x8), some (.int x9), some (.int x10), some (.int (x11 + 1)), some (.int (x12 + (q46.1 + q48.1))), some (.int q36), some (.int q44)], [], q48.2)) rfl ?_
                refine go_e (L1 := [some (.ref 0), some (.int x1), none, none, none, some (.int x5), some (.int x6), none, some (.ref x8), some (.int x9), some (.int x10), some (.int (x11 + 1)), some (.int (x12 + (q46.1 + q48.1))), none, none]) rfl rfl ?_
                simp only [if_neg h52] at hJ57
                first | exact hJ57 | (simp only [if_neg h52]; exact hJ57)
          · try dsimp only at hf
            obtain ⟨h61, hf⟩ := grd hf
            subst h61
            refine go_cc (f := (255, [some (.ref 0), some (.int x1), none, none, none, some (.int x5), none, none, none, some (.int x9), some (.int x10), some (.int x11), some (.int x12), none, none], [], (bmp τ42))) (mid := 6658) (args := [.ref x8]) (pc := 164) (L := [some (.ref 0), some (.int x1), none, none, none, some (.int x5), some (.int x6), none, some (.ref x8), some (.int x9), some (.int x10), some (.int x11), some (.int x12), some (.int q36), none]) (st := []) (σ := τ34) (stp_callV1 (n := 1) rfl rfl rfl ⟨Nat.le_of_ble_eq_true rfl, Nat.le_of_ble_eq_true rfl⟩ rfl h38 rfl) ((fX14_next_ok _ _ _ h40).deep (Nat.le_of_ble_eq_true rfl)) rfl ?_
            refine go_n 8 (f := (271, [some (.ref 0), some (.int x1), none, none, none, some (.int x5), none, none, none, some (.int x9), some (.int x10), some (.int x11), some (.int x12), none, none], [.int x5, .int x11, .int x10, .int x9, .int x1, .ref 17], (bmp τ42))) rfl ?_
            obtain ⟨q58, h59, hf⟩ := bnd hf
            refine go_c (mid := 5126) (args := [.int x9, .int x10, .int x11, .int x5]) (pc := 274) (L := [some (.ref 0), some (.int x1), none, none, none, some (.int x5), none, none, none, some (.int x9), some (.int x10), some (.int x11), some (.int x12), none, none]) (st := [.int x1, .ref 17]) (σ := (bmp τ42)) rfl ((fX0_dayAt_ok _ _ _ _ _ q58 h59).deep (Nat.le_of_ble_eq_true rfl)) ?_
            obtain ⟨h60, hf⟩ := grd hf
            refine go_iast rfl rfl rfl h60 ?_
            refine go_e (L1 := [some (.ref 0), none, none, none, none, none, none, none, none, none, none, none, some (.int x12), none, none]) rfl rfl ?_
            exact fX0_row_J275_ok _  _  _ hf
        · try dsimp only at hf
          obtain ⟨h65, hf⟩ := grd hf
          subst h65
          refine go_cc (f := (255, [some (.ref 0), some (.int x1), none, none, none, some (.int x5), none, none, none, some (.int x9), some (.int x10), some (.int x11), some (.int x12), none, none], [], (bmp τ34))) (mid := 6658) (args := [.ref x8]) (pc := 154) (L := [some (.ref 0), some (.int x1), none, none, none, some (.int x5), some (.int x6), none, some (.ref x8), some (.int x9), some (.int x10), some (.int x11), some (.int x12), none, none]) (st := []) (σ := σ) (stp_callV1 (n := 1) rfl rfl rfl ⟨Nat.le_of_ble_eq_true rfl, Nat.le_of_ble_eq_true rfl⟩ rfl h30 rfl) ((fX14_next_ok _ _ _ h32).deep (Nat.le_of_ble_eq_true rfl)) rfl ?_
          refine go_n 8 (f := (271, [some (.ref 0), some (.int x1), none, none, none, some (.int x5), none, none, none, some (.int x9), some (.int x10), some (.int x11), some (.int x12), none, none], [.int x5, .int x11, .int x10, .int x9, .int x1, .ref 17], (bmp τ34))) rfl ?_
          obtain ⟨q62, h63, hf⟩ := bnd hf
          refine go_c (mid := 5126) (args := [.int x9, .int x10, .int x11, .int x5]) (pc := 274) (L := [some (.ref 0), some (.int x1), none, none, none, some (.int x5), none, none, none, some (.int x9), some (.int x10), some (.int x11), some (.int x12), none, none]) (st := [.int x1, .ref 17]) (σ := (bmp τ34)) rfl ((fX0_dayAt_ok _ _ _ _ _ q62 h63).deep (Nat.le_of_ble_eq_true rfl)) ?_
          obtain ⟨h64, hf⟩ := grd hf
          refine go_iast rfl rfl rfl h64 ?_
          refine go_e (L1 := [some (.ref 0), none, none, none, none, none, none, none, none, none, none, none, some (.int x12), none, none]) rfl rfl ?_
          exact fX0_row_J275_ok _  _  _ hf
def fX0_row (x1 : Int32) (x2 : Int32) (x3 : Int32) (x4 : Int32) (x5 : Int32) (x6 : Int32) (σ : Sg) : Option (Int32 × Sg) :=
  (fX0_in x5 0 1).bind fun q1 => if q1 = 0 then fX0_row_J41   (wi σ 0 8 0) else (fX0_isDate x2 x3 x4 x5).bind fun q6 => if q6 = 0 then fX0_row_J41   (wi σ 0 8 0) else (fX0_isDesk x6).bind fun q9 => if q9 ≠ 0 then (fX0_isSource x1 (wi σ 0 8 0)).bind fun q12 => if q12 ≠ 0 then (fJ2_size 2 (wi σ 0 8 0)).bind fun q15 => if (q15 + (2 * ((gi σ 0 8) / 8))) ≤ 200 then if (gi σ 0 8) ≠ 0 then (am_new (wi σ 0 8 0) (22, 0) 2).bind fun σ20 => (fX14_init (gz (wi σ 0 8 0)) 27 (gi σ 0 8) σ20).bind fun q21 => lp (fX0_row_L133 x1 x5 x6 (gz (wi σ 0 8 0)) ) N0 (x2, x3, x4, 0, q21) else (fX0_refuse (-6) (wi σ 0 8 0)).bind fun q66 => some (q66.1, q66.2) else (fX0_refuse (-5) (wi σ 0 8 0)).bind fun q68 => some (q68.1, q68.2) else (fX0_refuse (-2) (wi σ 0 8 0)).bind fun q70 => some (q70.1, q70.2) else fX0_row_J41   (wi σ 0 8 0)
set_option maxHeartbeats 1500000 in
theorem fX0_row_ok (x1 : Int32) (x2 : Int32) (x3 : Int32) (x4 : Int32) (x5 : Int32) (x6 : Int32) (σ : Sg) (r : (Int32 × Sg)) (hf : fX0_row x1 x2 x3 x4 x5 x6 σ = some r) : Cl true 8 5155 [.ref 0, .int x1, .int x2, .int x3, .int x4, .int x5, .int x6] σ (.inl (some (.int (r).1)), (r).2) := by
  refine ⟨iX0_row, rfl, Nat.le_of_ble_eq_true rfl, Nat.le_of_ble_eq_true rfl, ?_⟩
  show Go true 8 iX0_row (0, [some (.ref 0), some (.int x1), some (.int x2), some (.int x3), some (.int x4), some (.int x5), some (.int x6), none, none, none, none, none, none, none, none], [], σ) (.inl (some (.int (r).1)), (r).2)
  unfold fX0_row at hf
  refine go_n 6 (f := (11, [some (.ref 0), some (.int x1), some (.int x2), some (.int x3), some (.int x4), some (.int x5), some (.int x6), some (.int (gi σ 0 8)), none, none, none, none, none, none, none], [], (wi σ 0 8 0))) rfl ?_
  refine go_n 3 (f := (15, [some (.ref 0), some (.int x1), some (.int x2), some (.int x3), some (.int x4), some (.int x5), some (.int x6), some (.int (gi σ 0 8)), none, none, none, none, none, none, none], [.int 1, .int 0, .int x5], (wi σ 0 8 0))) rfl ?_
  obtain ⟨q1, h2, hf⟩ := bnd hf
  refine go_c (mid := 5122) (args := [.int x5, .int 0, .int 1]) (pc := 18) (L := [some (.ref 0), some (.int x1), some (.int x2), some (.int x3), some (.int x4), some (.int x5), some (.int x6), some (.int (gi σ 0 8)), none, none, none, none, none, none, none]) (st := []) (σ := (wi σ 0 8 0)) rfl ((fX0_in_ok _ _ _ _ q1 h2).deep (Nat.le_of_ble_eq_true rfl)) ?_
  by_cases h3 : q1 = 0
  · rw [if_pos h3] at hf
    refine go_it (t := 41) (f := 21) (L1 := [some (.ref 0), some (.int x1), some (.int x2), some (.int x3), some (.int x4), some (.int x5), some (.int x6), some (.int (gi σ 0 8)), none, none, none, none, none, none, none]) (st1 := []) (σ1 := (wi σ 0 8 0)) rfl h3 ?_
    refine go_e (L1 := [some (.ref 0), none, none, none, none, none, none, none, none, none, none, none, none, none, none]) rfl rfl ?_
    exact fX0_row_J41_ok   _  _ hf
  · rw [if_neg h3] at hf
    refine go_if (t := 41) (f := 21) (L1 := [some (.ref 0), some (.int x1), some (.int x2), some (.int x3), some (.int x4), some (.int x5), some (.int x6), some (.int (gi σ 0 8)), none, none, none, none, none, none, none]) (st1 := []) (σ1 := (wi σ 0 8 0)) rfl h3 ?_
    refine go_n 4 (f := (27, [some (.ref 0), some (.int x1), some (.int x2), some (.int x3), some (.int x4), some (.int x5), some (.int x6), some (.int (gi σ 0 8)), none, none, none, none, none, none, none], [.int x5, .int x4, .int x3, .int x2], (wi σ 0 8 0))) rfl ?_
    obtain ⟨q6, h7, hf⟩ := bnd hf
    refine go_c (mid := 5123) (args := [.int x2, .int x3, .int x4, .int x5]) (pc := 30) (L := [some (.ref 0), some (.int x1), some (.int x2), some (.int x3), some (.int x4), some (.int x5), some (.int x6), some (.int (gi σ 0 8)), none, none, none, none, none, none, none]) (st := []) (σ := (wi σ 0 8 0)) rfl ((fX0_isDate_ok _ _ _ _ _ q6 h7).deep (Nat.le_of_ble_eq_true rfl)) ?_
    by_cases h8 : q6 = 0
    · rw [if_pos h8] at hf
      refine go_it (t := 41) (f := 33) (L1 := [some (.ref 0), some (.int x1), some (.int x2), some (.int x3), some (.int x4), some (.int x5), some (.int x6), some (.int (gi σ 0 8)), none, none, none, none, none, none, none]) (st1 := []) (σ1 := (wi σ 0 8 0)) rfl h8 ?_
      refine go_e (L1 := [some (.ref 0), none, none, none, none, none, none, none, none, none, none, none, none, none, none]) rfl rfl ?_
      exact fX0_row_J41_ok   _  _ hf
    · rw [if_neg h8] at hf
      refine go_if (t := 41) (f := 33) (L1 := [some (.ref 0), some (.int x1), some (.int x2), some (.int x3), some (.int x4), some (.int x5), some (.int x6), some (.int (gi σ 0 8)), none, none, none, none, none, none, none]) (st1 := []) (σ1 := (wi σ 0 8 0)) rfl h8 ?_
      refine go_n 1 (f := (35, [some (.ref 0), some (.int x1), some (.int x2), some (.int x3), some (.int x4), some (.int x5), some (.int x6), some (.int (gi σ 0 8)), none, none, none, none, none, none, none], [.int x6], (wi σ 0 8 0))) rfl ?_
      obtain ⟨q9, h10, hf⟩ := bnd hf
      refine go_c (mid := 5147) (args := [.int x6]) (pc := 38) (L := [some (.ref 0), some (.int x1), some (.int x2), some (.int x3), some (.int x4), some (.int x5), some (.int x6), some (.int (gi σ 0 8)), none, none, none, none, none, none, none]) (st := []) (σ := (wi σ 0 8 0)) rfl ((fX0_isDesk_ok _ _ q9 h10).deep (Nat.le_of_ble_eq_true rfl)) ?_
      by_cases h11 : q9 ≠ 0
      · rw [if_pos h11] at hf
        refine go_it (t := 47) (f := 41) (L1 := [some (.ref 0), some (.int x1), some (.int x2), some (.int x3), some (.int x4), some (.int x5), some (.int x6), some (.int (gi σ 0 8)), none, none, none, none, none, none, none]) (st1 := []) (σ1 := (wi σ 0 8 0)) rfl h11 ?_
        refine go_n 2 (f := (49, [some (.ref 0), some (.int x1), some (.int x2), some (.int x3), some (.int x4), some (.int x5), some (.int x6), some (.int (gi σ 0 8)), none, none, none, none, none, none, none], [.int x1, .ref 0], (wi σ 0 8 0))) rfl ?_
        obtain ⟨q12, h13, hf⟩ := bnd hf
        refine go_c (mid := 5143) (args := [.ref 0, .int x1]) (pc := 52) (L := [some (.ref 0), some (.int x1), some (.int x2), some (.int x3), some (.int x4), some (.int x5), some (.int x6), some (.int (gi σ 0 8)), none, none, none, none, none, none, none]) (st := []) (σ := (wi σ 0 8 0)) rfl ((fX0_isSource_ok _ _ q12 h13).deep (Nat.le_of_ble_eq_true rfl)) ?_
        by_cases h14 : q12 ≠ 0
        · rw [if_pos h14] at hf
          refine go_it (t := 62) (f := 55) (L1 := [some (.ref 0), some (.int x1), some (.int x2), some (.int x3), some (.int x4), some (.int x5), some (.int x6), some (.int (gi σ 0 8)), none, none, none, none, none, none, none]) (st1 := []) (σ1 := (wi σ 0 8 0)) rfl h14 ?_
          refine go_n 3 (f := (69, [some (.ref 0), some (.int x1), some (.int x2), some (.int x3), some (.int x4), some (.int x5), some (.int x6), some (.int (gi σ 0 8)), none, none, none, none, none, none, none], [.ref 2], (wi σ 0 8 0))) rfl ?_
          obtain ⟨q15, h16, hf⟩ := bnd hf
          refine go_c (mid := 2821) (args := [.ref 2]) (pc := 72) (L := [some (.ref 0), some (.int x1), some (.int x2), some (.int x3), some (.int x4), some (.int x5), some (.int x6), some (.int (gi σ 0 8)), none, none, none, none, none, none, none]) (st := []) (σ := (wi σ 0 8 0)) rfl ((fJ2_size_ok _ _ q15 h16).deep (Nat.le_of_ble_eq_true rfl)) ?_
          refine go_n 3 (f := (77, [some (.ref 0), some (.int x1), some (.int x2), some (.int x3), some (.int x4), some (.int x5), some (.int x6), some (.int (gi σ 0 8)), none, none, none, none, none, none, none], [.int 8, .int (gi σ 0 8), .int 2, .int q15], (wi σ 0 8 0))) rfl ?_
          refine go_idiv rfl rfl (by decide) ?_
          refine go_n 3 (f := (83, [some (.ref 0), some (.int x1), some (.int x2), some (.int x3), some (.int x4), some (.int x5), some (.int x6), some (.int (gi σ 0 8)), none, none, none, none, none, none, none], [.int 200, .int (q15 + (2 * ((gi σ 0 8) / 8)))], (wi σ 0 8 0))) rfl ?_
          by_cases h17 : (q15 + (2 * ((gi σ 0 8) / 8))) ≤ 200
          · rw [if_pos h17] at hf
            refine go_it (t := 93) (f := 86) (L1 := [some (.ref 0), some (.int x1), some (.int x2), some (.int x3), some (.int x4), some (.int x5), some (.int x6), some (.int (gi σ 0 8)), none, none, none, none, none, none, none]) (st1 := []) (σ1 := (wi σ 0 8 0)) rfl h17 ?_
            refine go_n 1 (f := (95, [some (.ref 0), some (.int x1), some (.int x2), some (.int x3), some (.int x4), some (.int x5), some (.int x6), some (.int (gi σ 0 8)), none, none, none, none, none, none, none], [.int (gi σ 0 8)], (wi σ 0 8 0))) rfl ?_
            by_cases h18 : (gi σ 0 8) ≠ 0
            · rw [if_pos h18] at hf
              refine go_it (t := 105) (f := 98) (L1 := [some (.ref 0), some (.int x1), some (.int x2), some (.int x3), some (.int x4), some (.int x5), some (.int x6), some (.int (gi σ 0 8)), none, none, none, none, none, none, none]) (st1 := []) (σ1 := (wi σ 0 8 0)) rfl h18 ?_
              obtain ⟨σ20, h19, hf⟩ := bnd hf
              refine go_new rfl rfl rfl h19 ?_
              refine go_n 4 (f := (115, [some (.ref 0), some (.int x1), some (.int x2), some (.int x3), some (.int x4), some (.int x5), some (.int x6), some (.int (gi σ 0 8)), none, none, none, none, none, none, none], [.int (gi σ 0 8), .ref 27, .ref (gz (wi σ 0 8 0)), .ref (gz (wi σ 0 8 0))], σ20)) rfl ?_
              obtain ⟨q21, h22, hf⟩ := bnd hf
              refine go_c (mid := 6656) (args := [.ref (gz (wi σ 0 8 0)), .ref 27, .int (gi σ 0 8)]) (pc := 118) (L := [some (.ref 0), some (.int x1), some (.int x2), some (.int x3), some (.int x4), some (.int x5), some (.int x6), some (.int (gi σ 0 8)), none, none, none, none, none, none, none]) (st := [.ref (gz (wi σ 0 8 0))]) (σ := σ20) rfl ((fX14_init_ok _ _ _ _ q21 h22).deep (Nat.le_of_ble_eq_true rfl)) ?_
              refine go_n 3 (f := (123, [some (.ref 0), some (.int x1), some (.int x2), some (.int x3), some (.int x4), some (.int x5), some (.int x6), some (.int (gi σ 0 8)), some (.ref (gz (wi σ 0 8 0))), some (.int x2), none, none, none, none, none], [], q21)) rfl ?_
              refine go_n 4 (f := (130, [some (.ref 0), some (.int x1), some (.int x2), some (.int x3), some (.int x4), some (.int x5), some (.int x6), some (.int (gi σ 0 8)), some (.ref (gz (wi σ 0 8 0))), some (.int x2), some (.int x3), some (.int x4), none, none, none], [], q21)) rfl ?_
              refine go_n 2 (f := (133, [some (.ref 0), some (.int x1), some (.int x2), some (.int x3), some (.int x4), some (.int x5), some (.int x6), some (.int (gi σ 0 8)), some (.ref (gz (wi σ 0 8 0))), some (.int x2), some (.int x3), some (.int x4), some (.int 0), none, none], [], q21)) rfl ?_
              refine go_e (L1 := [some (.ref 0), some (.int x1), none, none, none, some (.int x5), some (.int x6), none, some (.ref (gz (wi σ 0 8 0))), some (.int x2), some (.int x3), some (.int x4), some (.int 0), none, none]) rfl rfl ?_
              exact fX0_row_L133_ok _ _ _ _   N0 _ _ _ _ _ _ hf
            · rw [if_neg h18] at hf
              refine go_if (t := 105) (f := 98) (L1 := [some (.ref 0), some (.int x1), some (.int x2), some (.int x3), some (.int x4), some (.int x5), some (.int x6), some (.int (gi σ 0 8)), none, none, none, none, none, none, none]) (st1 := []) (σ1 := (wi σ 0 8 0)) rfl h18 ?_
              refine go_n 2 (f := (101, [some (.ref 0), some (.int x1), some (.int x2), some (.int x3), some (.int x4), some (.int x5), some (.int x6), some (.int (gi σ 0 8)), none, none, none, none, none, none, none], [.int (-6), .ref 0], (wi σ 0 8 0))) rfl ?_
              obtain ⟨q66, h67, hf⟩ := bnd hf
              refine go_c (mid := 5133) (args := [.ref 0, .int (-6)]) (pc := 104) (L := [some (.ref 0), some (.int x1), some (.int x2), some (.int x3), some (.int x4), some (.int x5), some (.int x6), some (.int (gi σ 0 8)), none, none, none, none, none, none, none]) (st := []) (σ := (wi σ 0 8 0)) rfl ((fX0_refuse_ok _ _ q66 h67).deep (Nat.le_of_ble_eq_true rfl)) ?_
              cases hf
              exact go_r rfl
          · rw [if_neg h17] at hf
            refine go_if (t := 93) (f := 86) (L1 := [some (.ref 0), some (.int x1), some (.int x2), some (.int x3), some (.int x4), some (.int x5), some (.int x6), some (.int (gi σ 0 8)), none, none, none, none, none, none, none]) (st1 := []) (σ1 := (wi σ 0 8 0)) rfl h17 ?_
            refine go_n 2 (f := (89, [some (.ref 0), some (.int x1), some (.int x2), some (.int x3), some (.int x4), some (.int x5), some (.int x6), some (.int (gi σ 0 8)), none, none, none, none, none, none, none], [.int (-5), .ref 0], (wi σ 0 8 0))) rfl ?_
            obtain ⟨q68, h69, hf⟩ := bnd hf
            refine go_c (mid := 5133) (args := [.ref 0, .int (-5)]) (pc := 92) (L := [some (.ref 0), some (.int x1), some (.int x2), some (.int x3), some (.int x4), some (.int x5), some (.int x6), some (.int (gi σ 0 8)), none, none, none, none, none, none, none]) (st := []) (σ := (wi σ 0 8 0)) rfl ((fX0_refuse_ok _ _ q68 h69).deep (Nat.le_of_ble_eq_true rfl)) ?_
            cases hf
            exact go_r rfl
        · rw [if_neg h14] at hf
          refine go_if (t := 62) (f := 55) (L1 := [some (.ref 0), some (.int x1), some (.int x2), some (.int x3), some (.int x4), some (.int x5), some (.int x6), some (.int (gi σ 0 8)), none, none, none, none, none, none, none]) (st1 := []) (σ1 := (wi σ 0 8 0)) rfl h14 ?_
          refine go_n 2 (f := (58, [some (.ref 0), some (.int x1), some (.int x2), some (.int x3), some (.int x4), some (.int x5), some (.int x6), some (.int (gi σ 0 8)), none, none, none, none, none, none, none], [.int (-2), .ref 0], (wi σ 0 8 0))) rfl ?_
          obtain ⟨q70, h71, hf⟩ := bnd hf
          refine go_c (mid := 5133) (args := [.ref 0, .int (-2)]) (pc := 61) (L := [some (.ref 0), some (.int x1), some (.int x2), some (.int x3), some (.int x4), some (.int x5), some (.int x6), some (.int (gi σ 0 8)), none, none, none, none, none, none, none]) (st := []) (σ := (wi σ 0 8 0)) rfl ((fX0_refuse_ok _ _ q70 h71).deep (Nat.le_of_ble_eq_true rfl)) ?_
          cases hf
          exact go_r rfl
      · rw [if_neg h11] at hf
        refine go_if (t := 47) (f := 41) (L1 := [some (.ref 0), some (.int x1), some (.int x2), some (.int x3), some (.int x4), some (.int x5), some (.int x6), some (.int (gi σ 0 8)), none, none, none, none, none, none, none]) (st1 := []) (σ1 := (wi σ 0 8 0)) rfl h11 ?_
        refine go_e (L1 := [some (.ref 0), none, none, none, none, none, none, none, none, none, none, none, none, none, none]) rfl rfl ?_
        exact fX0_row_J41_ok   _  _ hf
