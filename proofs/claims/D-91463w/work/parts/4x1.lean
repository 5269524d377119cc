set_option maxRecDepth 100000
/-! OldWeather$Pairs.end(IZI)J -/
def fX5_end_J88 (x1 : Int32) (x2 : Int32) (x3 : Int32) (x4 : Int64) (x6 : Int32) (x7 : Int32) (rec9 : (Int64 × Int32 × Int32) → Option Int64) (σ : Sg) : Option Int64 :=
  rec9 (x4, x6, (x7 + 1))
set_option maxHeartbeats 1500000 in
theorem fX5_end_J88_ok (x1 : Int32) (x2 : Int32) (x3 : Int32) (x4 : Int64) (x6 : Int32) (x7 : Int32) (rec9 : (Int64 × Int32 × Int32) → Option Int64) (σ : Sg) (hrec9 : ∀ (y4 : Int64) (y6 : Int32) (y7 : Int32) (r : Int64), rec9 (y4, y6, y7) = some r → Go true 0 iX5_end (9, [some (.ref 35), some (.int x1), some (.int x2), some (.int x3), some (.long y4), none, some (.int y6), some (.int y7)], [], σ) (.inl (some (.long r)), σ)) (r : Int64) (hf : fX5_end_J88 x1 x2 x3 x4 x6 x7 rec9 σ = some r) : Go true 0 iX5_end (88, [some (.ref 35), some (.int x1), some (.int x2), some (.int x3), some (.long x4), none, some (.int x6), some (.int x7)], [], σ) (.inl (some (.long r)), σ) := by
  unfold fX5_end_J88 at hf
  refine go_n 2 (f := (9, [some (.ref 35), some (.int x1), some (.int x2), some (.int x3), some (.long x4), none, some (.int x6), some (.int (x7 + 1))], [], σ)) rfl ?_
  exact hrec9 _ _ _ _ hf
def fX5_end_J85 (x1 : Int32) (x2 : Int32) (x3 : Int32) (x4 : Int64) (x7 : Int32) (rec9 : (Int64 × Int32 × Int32) → Option Int64) (σ : Sg) : Option Int64 :=
  fX5_end_J88 x1 x2 x3 x4 1 x7 rec9 σ
set_option maxHeartbeats 1500000 in
theorem fX5_end_J85_ok (x1 : Int32) (x2 : Int32) (x3 : Int32) (x4 : Int64) (x7 : Int32) (rec9 : (Int64 × Int32 × Int32) → Option Int64) (σ : Sg) (hrec9 : ∀ (y4 : Int64) (y6 : Int32) (y7 : Int32) (r : Int64), rec9 (y4, y6, y7) = some r → Go true 0 iX5_end (9, [some (.ref 35), some (.int x1), some (.int x2), some (.int x3), some (.long y4), none, some (.int y6), some (.int y7)], [], σ) (.inl (some (.long r)), σ)) (r : Int64) (hf : fX5_end_J85 x1 x2 x3 x4 x7 rec9 σ = some r) : Go true 0 iX5_end (85, [some (.ref 35), some (.int x1), some (.int x2), some (.int x3), some (.long x4), none, none, some (.int x7)], [], σ) (.inl (some (.long r)), σ) := by
  unfold fX5_end_J85 at hf
  refine go_n 2 (f := (88, [some (.ref 35), some (.int x1), some (.int x2), some (.int x3), some (.long x4), none, some (.int 1), some (.int x7)], [], σ)) rfl ?_
  exact fX5_end_J88_ok _ _ _ _ _ _ _ _ hrec9 _ hf
def fX5_end_J76 (x1 : Int32) (x2 : Int32) (x3 : Int32) (x7 : Int32) (rec9 : (Int64 × Int32 × Int32) → Option Int64) (σ : Sg) : Option Int64 :=
  if inb x7 200 then fX5_end_J85 x1 x2 x3 (gl σ 38 x7.toNatClampNeg) x7 rec9 σ else none
set_option maxHeartbeats 1500000 in
theorem fX5_end_J76_ok (x1 : Int32) (x2 : Int32) (x3 : Int32) (x7 : Int32) (rec9 : (Int64 × Int32 × Int32) → Option Int64) (σ : Sg) (hrec9 : ∀ (y4 : Int64) (y6 : Int32) (y7 : Int32) (r : Int64), rec9 (y4, y6, y7) = some r → Go true 0 iX5_end (9, [some (.ref 35), some (.int x1), some (.int x2), some (.int x3), some (.long y4), none, some (.int y6), some (.int y7)], [], σ) (.inl (some (.long r)), σ)) (r : Int64) (hf : fX5_end_J76 x1 x2 x3 x7 rec9 σ = some r) : Go true 0 iX5_end (76, [some (.ref 35), some (.int x1), some (.int x2), some (.int x3), none, none, none, some (.int x7)], [], σ) (.inl (some (.long r)), σ) := by
  unfold fX5_end_J76 at hf
  refine go_n 3 (f := (82, [some (.ref 35), some (.int x1), some (.int x2), some (.int x3), none, none, none, some (.int x7)], [.int x7, .ref 38], σ)) rfl ?_
  obtain ⟨h6, hf⟩ := grd hf
  refine go_lald rfl rfl rfl h6 ?_
  refine go_n 1 (f := (85, [some (.ref 35), some (.int x1), some (.int x2), some (.int x3), some (.long (gl σ 38 x7.toNatClampNeg)), none, none, some (.int x7)], [], σ)) rfl ?_
  exact fX5_end_J85_ok _ _ _ _ _ _ _ hrec9 _ hf
def fX5_end_L9 (x1 : Int32) (x2 : Int32) (x3 : Int32) (σ : Sg)  (rec9 : (Int64 × Int32 × Int32) → Option Int64) (s : Int64 × Int32 × Int32) : Option Int64 :=
  match s with
  | (x4, x6, x7) => if (gi σ 35 5) ≤ x7 then some x4 else if inb x7 200 then if (gi σ 37 x7.toNatClampNeg) ≠ x1 then fX5_end_J88 x1 x2 x3 x4 x6 x7 rec9 σ else if x7 ≠ x3 then if x6 = 0 then fX5_end_J76 x1 x2 x3 x7 rec9 σ else if x2 = 0 then if inb x7 200 then if x4 ≤ (gl σ 38 x7.toNatClampNeg) then fX5_end_J85 x1 x2 x3 x4 x7 rec9 σ else fX5_end_J76 x1 x2 x3 x7 rec9 σ else none else if inb x7 200 then if (gl σ 38 x7.toNatClampNeg) ≤ x4 then fX5_end_J85 x1 x2 x3 x4 x7 rec9 σ else fX5_end_J76 x1 x2 x3 x7 rec9 σ else none else fX5_end_J88 x1 x2 x3 x4 x6 x7 rec9 σ else none
set_option maxHeartbeats 1500000 in
theorem fX5_end_L9_ok (x1 : Int32) (x2 : Int32) (x3 : Int32) (σ : Sg)   : ∀ (n : Nat) (x4 : Int64) (x6 : Int32) (x7 : Int32) (r : Int64), lp (fX5_end_L9 x1 x2 x3 σ ) n (x4, x6, x7) = some r → Go true 0 iX5_end (9, [some (.ref 35), some (.int x1), some (.int x2), some (.int x3), some (.long x4), none, some (.int x6), some (.int x7)], [], σ) (.inl (some (.long r)), σ) := by
  intro n
  induction n with
  | zero => intro x4 x6 x7 r hf; cases hf
  | succ n ih =>
    intro x4 x6 x7 r hf
    have hf : fX5_end_L9 x1 x2 x3 σ  (lp (fX5_end_L9 x1 x2 x3 σ ) n) (x4, x6, x7) = some r := hf
    have hrec9 := ih
    generalize lp (fX5_end_L9 x1 x2 x3 σ ) n = rec9 at hf hrec9
    unfold fX5_end_L9 at hf
    dsimp only at hf
    refine go_n 3 (f := (15, [some (.ref 35), some (.int x1), some (.int x2), some (.int x3), some (.long x4), none, some (.int x6), some (.int x7)], [.int (gi σ 35 5), .int x7], σ)) rfl ?_
    by_cases h1 : (gi σ 35 5) ≤ x7
    · rw [if_pos h1] at hf
      refine go_it (t := 94) (f := 18) (L1 := [some (.ref 35), some (.int x1), some (.int x2), some (.int x3), some (.long x4), none, some (.int x6), some (.int x7)]) (st1 := []) (σ1 := σ) rfl h1 ?_
      refine go_n 1 (f := (96, [some (.ref 35), some (.int x1), some (.int x2), some (.int x3), some (.long x4), none, some (.int x6), some (.int x7)], [.long x4], σ)) rfl ?_
      cases hf
      exact go_r rfl
    · rw [if_neg h1] at hf
      refine go_if (t := 94) (f := 18) (L1 := [some (.ref 35), some (.int x1), some (.int x2), some (.int x3), some (.long x4), none, some (.int x6), some (.int x7)]) (st1 := []) (σ1 := σ) rfl h1 ?_
      refine go_n 3 (f := (24, [some (.ref 35), some (.int x1), some (.int x2), some (.int x3), some (.long x4), none, some (.int x6), some (.int x7)], [.int x7, .ref 37], σ)) rfl ?_
      obtain ⟨h2, hf⟩ := grd hf
      refine go_iald rfl rfl rfl h2 ?_
      refine go_n 1 (f := (26, [some (.ref 35), some (.int x1), some (.int x2), some (.int x3), some (.long x4), none, some (.int x6), some (.int x7)], [.int x1, .int (gi σ 37 x7.toNatClampNeg)], σ)) rfl ?_
      by_cases h3 : (gi σ 37 x7.toNatClampNeg) ≠ x1
      · rw [if_pos h3] at hf
        refine go_it (t := 88) (f := 29) (L1 := [some (.ref 35), some (.int x1), some (.int x2), some (.int x3), some (.long x4), none, some (.int x6), some (.int x7)]) (st1 := []) (σ1 := σ) rfl h3 ?_
        exact fX5_end_J88_ok _ _ _ _ _ _ _ _ hrec9 _ hf
      · rw [if_neg h3] at hf
        refine go_if (t := 88) (f := 29) (L1 := [some (.ref 35), some (.int x1), some (.int x2), some (.int x3), some (.long x4), none, some (.int x6), some (.int x7)]) (st1 := []) (σ1 := σ) rfl h3 ?_
        refine go_n 2 (f := (32, [some (.ref 35), some (.int x1), some (.int x2), some (.int x3), some (.long x4), none, some (.int x6), some (.int x7)], [.int x3, .int x7], σ)) rfl ?_
        by_cases h4 : x7 ≠ x3
        · rw [if_pos h4] at hf
          refine go_it (t := 38) (f := 35) (L1 := [some (.ref 35), some (.int x1), some (.int x2), some (.int x3), some (.long x4), none, some (.int x6), some (.int x7)]) (st1 := []) (σ1 := σ) rfl h4 ?_
          refine go_n 1 (f := (40, [some (.ref 35), some (.int x1), some (.int x2), some (.int x3), some (.long x4), none, some (.int x6), some (.int x7)], [.int x6], σ)) rfl ?_
          by_cases h5 : x6 = 0
          · rw [if_pos h5] at hf
            refine go_it (t := 76) (f := 43) (L1 := [some (.ref 35), some (.int x1), some (.int x2), some (.int x3), some (.long x4), none, some (.int x6), some (.int x7)]) (st1 := []) (σ1 := σ) rfl h5 ?_
            refine go_e (L1 := [some (.ref 35), some (.int x1), some (.int x2), some (.int x3), none, none, none, some (.int x7)]) rfl rfl ?_
            exact fX5_end_J76_ok _ _ _ _ _ _ hrec9 _ hf
          · rw [if_neg h5] at hf
            refine go_if (t := 76) (f := 43) (L1 := [some (.ref 35), some (.int x1), some (.int x2), some (.int x3), some (.long x4), none, some (.int x6), some (.int x7)]) (st1 := []) (σ1 := σ) rfl h5 ?_
            refine go_n 1 (f := (44, [some (.ref 35), some (.int x1), some (.int x2), some (.int x3), some (.long x4), none, some (.int x6), some (.int x7)], [.int x2], σ)) rfl ?_
            by_cases h7 : x2 = 0
            · rw [if_pos h7] at hf
              refine go_it (t := 63) (f := 47) (L1 := [some (.ref 35), some (.int x1), some (.int x2), some (.int x3), some (.long x4), none, some (.int x6), some (.int x7)]) (st1 := []) (σ1 := σ) rfl h7 ?_
              refine go_n 3 (f := (69, [some (.ref 35), some (.int x1), some (.int x2), some (.int x3), some (.long x4), none, some (.int x6), some (.int x7)], [.int x7, .ref 38], σ)) rfl ?_
              obtain ⟨h8, hf⟩ := grd hf
              refine go_lald rfl rfl rfl h8 ?_
              refine go_n 2 (f := (73, [some (.ref 35), some (.int x1), some (.int x2), some (.int x3), some (.long x4), none, some (.int x6), some (.int x7)], [.int (lg_cmp (gl σ 38 x7.toNatClampNeg) x4)], σ)) rfl ?_
              by_cases h9 : x4 ≤ (gl σ 38 x7.toNatClampNeg)
              · rw [if_pos h9] at hf
                refine go_it (t := 85) (f := 76) (L1 := [some (.ref 35), some (.int x1), some (.int x2), some (.int x3), some (.long x4), none, some (.int x6), some (.int x7)]) (st1 := []) (σ1 := σ) rfl ((lgc_ge (gl σ 38 x7.toNatClampNeg) x4).mpr h9) ?_
                refine go_e (L1 := [some (.ref 35), some (.int x1), some (.int x2), some (.int x3), some (.long x4), none, none, some (.int x7)]) rfl rfl ?_
                exact fX5_end_J85_ok _ _ _ _ _ _ _ hrec9 _ hf
              · rw [if_neg h9] at hf
                refine go_if (t := 85) (f := 76) (L1 := [some (.ref 35), some (.int x1), some (.int x2), some (.int x3), some (.long x4), none, some (.int x6), some (.int x7)]) (st1 := []) (σ1 := σ) rfl (fun q => h9 ((lgc_ge (gl σ 38 x7.toNatClampNeg) x4).mp q)) ?_
                refine go_e (L1 := [some (.ref 35), some (.int x1), some (.int x2), some (.int x3), none, none, none, some (.int x7)]) rfl rfl ?_
                exact fX5_end_J76_ok _ _ _ _ _ _ hrec9 _ hf
            · rw [if_neg h7] at hf
              refine go_if (t := 63) (f := 47) (L1 := [some (.ref 35), some (.int x1), some (.int x2), some (.int x3), some (.long x4), none, some (.int x6), some (.int x7)]) (st1 := []) (σ1 := σ) rfl h7 ?_
              refine go_n 3 (f := (53, [some (.ref 35), some (.int x1), some (.int x2), some (.int x3), some (.long x4), none, some (.int x6), some (.int x7)], [.int x7, .ref 38], σ)) rfl ?_
              obtain ⟨h10, hf⟩ := grd hf
              refine go_lald rfl rfl rfl h10 ?_
              refine go_n 2 (f := (57, [some (.ref 35), some (.int x1), some (.int x2), some (.int x3), some (.long x4), none, some (.int x6), some (.int x7)], [.int (lg_cmp (gl σ 38 x7.toNatClampNeg) x4)], σ)) rfl ?_
              by_cases h11 : (gl σ 38 x7.toNatClampNeg) ≤ x4
              · rw [if_pos h11] at hf
                refine go_it (t := 85) (f := 60) (L1 := [some (.ref 35), some (.int x1), some (.int x2), some (.int x3), some (.long x4), none, some (.int x6), some (.int x7)]) (st1 := []) (σ1 := σ) rfl ((lgc_le (gl σ 38 x7.toNatClampNeg) x4).mpr h11) ?_
                refine go_e (L1 := [some (.ref 35), some (.int x1), some (.int x2), some (.int x3), some (.long x4), none, none, some (.int x7)]) rfl rfl ?_
                exact fX5_end_J85_ok _ _ _ _ _ _ _ hrec9 _ hf
              · rw [if_neg h11] at hf
                refine go_if (t := 85) (f := 60) (L1 := [some (.ref 35), some (.int x1), some (.int x2), some (.int x3), some (.long x4), none, some (.int x6), some (.int x7)]) (st1 := []) (σ1 := σ) rfl (fun q => h11 ((lgc_le (gl σ 38 x7.toNatClampNeg) x4).mp q)) ?_
                refine go_n 1 (f := (76, [some (.ref 35), some (.int x1), some (.int x2), some (.int x3), some (.long x4), none, some (.int x6), some (.int x7)], [], σ)) rfl ?_
                refine go_e (L1 := [some (.ref 35), some (.int x1), some (.int x2), some (.int x3), none, none, none, some (.int x7)]) rfl rfl ?_
                exact fX5_end_J76_ok _ _ _ _ _ _ hrec9 _ hf
        · rw [if_neg h4] at hf
          refine go_if (t := 38) (f := 35) (L1 := [some (.ref 35), some (.int x1), some (.int x2), some (.int x3), some (.long x4), none, some (.int x6), some (.int x7)]) (st1 := []) (σ1 := σ) rfl h4 ?_
          refine go_n 1 (f := (88, [some (.ref 35), some (.int x1), some (.int x2), some (.int x3), some (.long x4), none, some (.int x6), some (.int x7)], [], σ)) rfl ?_
          exact fX5_end_J88_ok _ _ _ _ _ _ _ _ hrec9 _ hf
def fX5_end (x1 : Int32) (x2 : Int32) (x3 : Int32) (σ : Sg) : Option Int64 :=
  lp (fX5_end_L9 x1 x2 x3 σ ) N0 (0, 0, 0)
set_option maxHeartbeats 1500000 in
theorem fX5_end_ok (x1 : Int32) (x2 : Int32) (x3 : Int32) (σ : Sg) (r : Int64) (hf : fX5_end x1 x2 x3 σ = some r) : Cl true 0 11524 [.ref 35, .int x1, .int x2, .int x3] σ (.inl (some (.long r)), σ) := by
  refine ⟨iX5_end, rfl, Nat.le_of_ble_eq_true rfl, Nat.le_of_ble_eq_true rfl, ?_⟩
  show Go true 0 iX5_end (0, [some (.ref 35), some (.int x1), some (.int x2), some (.int x3), none, none, none, none], [], σ) (.inl (some (.long r)), σ)
  unfold fX5_end at hf
  refine go_n 4 (f := (6, [some (.ref 35), some (.int x1), some (.int x2), some (.int x3), some (.long 0), none, some (.int 0), none], [], σ)) rfl ?_
  refine go_n 2 (f := (9, [some (.ref 35), some (.int x1), some (.int x2), some (.int x3), some (.long 0), none, some (.int 0), some (.int 0)], [], σ)) rfl ?_
  exact fX5_end_L9_ok _ _ _ _   N0 _ _ _ _ hf
/-! OldWeather$Desk.merges(II)V -/
def fX6_merges_J25 (x1 : Int32) (x2 : Int32) (x3 : Int32) (rec2 : (Int32 × Sg) → Option Sg) (σ : Sg) : Option Sg :=
  rec2 ((x3 + 1), σ)
set_option maxHeartbeats 1500000 in
theorem fX6_merges_J25_ok (x1 : Int32) (x2 : Int32) (x3 : Int32) (rec2 : (Int32 × Sg) → Option Sg) (σ : Sg) (hrec2 : ∀ (y3 : Int32) (τ : Sg) (r : Sg), rec2 (y3, τ) = some r → Go true 0 iX6_merges (2, [some (.ref 39), some (.int x1), some (.int x2), some (.int y3)], [], τ) (.inl none, r)) (r : Sg) (hf : fX6_merges_J25 x1 x2 x3 rec2 σ = some r) : Go true 0 iX6_merges (25, [some (.ref 39), some (.int x1), some (.int x2), some (.int x3)], [], σ) (.inl none, r) := by
  unfold fX6_merges_J25 at hf
  refine go_n 2 (f := (2, [some (.ref 39), some (.int x1), some (.int x2), some (.int (x3 + 1))], [], σ)) rfl ?_
  exact hrec2 _ _ _ hf
def fX6_merges_L2 (x1 : Int32) (x2 : Int32)  (rec2 : (Int32 × Sg) → Option Sg) (s : Int32 × Sg) : Option Sg :=
  match s with
  | (x3, σ) => if 16 ≤ x3 then some σ else if inb x3 16 then if (gi σ 40 x3.toNatClampNeg) ≠ x2 then fX6_merges_J25 x1 x2 x3 rec2 σ else if inb x3 16 then fX6_merges_J25 x1 x2 x3 rec2 (wi σ 40 x3.toNatClampNeg x1) else none else none
set_option maxHeartbeats 1500000 in
theorem fX6_merges_L2_ok (x1 : Int32) (x2 : Int32)   : ∀ (n : Nat) (x3 : Int32) (σ : Sg) (r : Sg), lp (fX6_merges_L2 x1 x2 ) n (x3, σ) = some r → Go true 0 iX6_merges (2, [some (.ref 39), some (.int x1), some (.int x2), some (.int x3)], [], σ) (.inl none, r) := by
  intro n
  induction n with
  | zero => intro x3 σ r hf; cases hf
  | succ n ih =>
    intro x3 σ r hf
    have hf : fX6_merges_L2 x1 x2  (lp (fX6_merges_L2 x1 x2 ) n) (x3, σ) = some r := hf
    have hrec2 := ih
    generalize lp (fX6_merges_L2 x1 x2 ) n = rec2 at hf hrec2
    unfold fX6_merges_L2 at hf
    dsimp only at hf
    refine go_n 2 (f := (5, [some (.ref 39), some (.int x1), some (.int x2), some (.int x3)], [.int 16, .int x3], σ)) rfl ?_
    by_cases h1 : 16 ≤ x3
    · rw [if_pos h1] at hf
      refine go_it (t := 31) (f := 8) (L1 := [some (.ref 39), some (.int x1), some (.int x2), some (.int x3)]) (st1 := []) (σ1 := σ) rfl h1 ?_
      cases hf
      exact go_r rfl
    · rw [if_neg h1] at hf
      refine go_if (t := 31) (f := 8) (L1 := [some (.ref 39), some (.int x1), some (.int x2), some (.int x3)]) (st1 := []) (σ1 := σ) rfl h1 ?_
      refine go_n 3 (f := (13, [some (.ref 39), some (.int x1), some (.int x2), some (.int x3)], [.int x3, .ref 40], σ)) rfl ?_
      obtain ⟨h2, hf⟩ := grd hf
      refine go_iald rfl rfl rfl h2 ?_
      refine go_n 1 (f := (15, [some (.ref 39), some (.int x1), some (.int x2), some (.int x3)], [.int x2, .int (gi σ 40 x3.toNatClampNeg)], σ)) rfl ?_
      by_cases h3 : (gi σ 40 x3.toNatClampNeg) ≠ x2
      · rw [if_pos h3] at hf
        refine go_it (t := 25) (f := 18) (L1 := [some (.ref 39), some (.int x1), some (.int x2), some (.int x3)]) (st1 := []) (σ1 := σ) rfl h3 ?_
        exact fX6_merges_J25_ok _ _ _ _ _ hrec2 _ hf
      · rw [if_neg h3] at hf
        refine go_if (t := 25) (f := 18) (L1 := [some (.ref 39), some (.int x1), some (.int x2), some (.int x3)]) (st1 := []) (σ1 := σ) rfl h3 ?_
        refine go_n 4 (f := (24, [some (.ref 39), some (.int x1), some (.int x2), some (.int x3)], [.int x1, .int x3, .ref 40], σ)) rfl ?_
        obtain ⟨h4, hf⟩ := grd hf
        refine go_iast rfl rfl rfl h4 ?_
        exact fX6_merges_J25_ok _ _ _ _ _ hrec2 _ hf
def fX6_merges (x1 : Int32) (x2 : Int32) (σ : Sg) : Option Sg :=
  lp (fX6_merges_L2 x1 x2 ) N0 (0, σ)
set_option maxHeartbeats 1500000 in
theorem fX6_merges_ok (x1 : Int32) (x2 : Int32) (σ : Sg) (r : Sg) (hf : fX6_merges x1 x2 σ = some r) : Cl true 0 11780 [.ref 39, .int x1, .int x2] σ (.inl none, r) := by
  refine ⟨iX6_merges, rfl, Nat.le_of_ble_eq_true rfl, Nat.le_of_ble_eq_true rfl, ?_⟩
  show Go true 0 iX6_merges (0, [some (.ref 39), some (.int x1), some (.int x2), none], [], σ) (.inl none, r)
  unfold fX6_merges at hf
  refine go_n 2 (f := (2, [some (.ref 39), some (.int x1), some (.int x2), some (.int 0)], [], σ)) rfl ?_
  exact fX6_merges_L2_ok _ _   N0 _ _ _ hf
/-! OldWeather$Desk.isJoined(I)Z -/
def fX6_isJoined (x1 : Int32) (σ : Sg) : Option Int32 :=
  if inb x1 200 then if (gi σ 46 x1.toNatClampNeg) = 0 then some 0 else if inb x1 200 then if (gi σ 45 x1.toNatClampNeg) = 0 then some 0 else if inb x1 200 then ((fun (z7 : Int32) => some z7) ((if (gi σ 26 x1.toNatClampNeg) ≠ (-1) then 0 else 1) : Int32)) else none else none else none
set_option maxHeartbeats 1500000 in
theorem fX6_isJoined_ok (x1 : Int32) (σ : Sg) (r : Int32) (hf : fX6_isJoined x1 σ = some r) : Cl true 0 11783 [.ref 39, .int x1] σ (.inl (some (.int r)), σ) := by
  refine ⟨iX6_isJoined, rfl, Nat.le_of_ble_eq_true rfl, Nat.le_of_ble_eq_true rfl, ?_⟩
  show Go true 0 iX6_isJoined (0, [some (.ref 39), some (.int x1)], [], σ) (.inl (some (.int r)), σ)
  unfold fX6_isJoined at hf
  refine go_n 3 (f := (5, [some (.ref 39), some (.int x1)], [.int x1, .ref 46], σ)) rfl ?_
  obtain ⟨h1, hf⟩ := grd hf
  refine go_bald rfl rfl (Or.inr rfl) h1 ?_
  by_cases h2 : (gi σ 46 x1.toNatClampNeg) = 0
  · rw [if_pos h2] at hf
    refine go_it (t := 35) (f := 9) (L1 := [some (.ref 39), some (.int x1)]) (st1 := []) (σ1 := σ) rfl h2 ?_
    refine go_e (L1 := [none, none]) rfl rfl ?_
    refine go_n 1 (f := (36, [none, none], [.int 0], σ)) rfl ?_
    cases hf
    exact go_r rfl
  · rw [if_neg h2] at hf
    refine go_if (t := 35) (f := 9) (L1 := [some (.ref 39), some (.int x1)]) (st1 := []) (σ1 := σ) rfl h2 ?_
    refine go_n 3 (f := (14, [some (.ref 39), some (.int x1)], [.int x1, .ref 45], σ)) rfl ?_
    obtain ⟨h3, hf⟩ := grd hf
    refine go_bald rfl rfl (Or.inr rfl) h3 ?_
    by_cases h4 : (gi σ 45 x1.toNatClampNeg) = 0
    · rw [if_pos h4] at hf
      refine go_it (t := 35) (f := 18) (L1 := [some (.ref 39), some (.int x1)]) (st1 := []) (σ1 := σ) rfl h4 ?_
      refine go_e (L1 := [none, none]) rfl rfl ?_
      refine go_n 1 (f := (36, [none, none], [.int 0], σ)) rfl ?_
      cases hf
      exact go_r rfl
    · rw [if_neg h4] at hf
      refine go_if (t := 35) (f := 18) (L1 := [some (.ref 39), some (.int x1)]) (st1 := []) (σ1 := σ) rfl h4 ?_
      refine go_n 4 (f := (26, [some (.ref 39), some (.int x1)], [.int x1, .ref 26], σ)) rfl ?_
      obtain ⟨h5, hf⟩ := grd hf
      refine go_iald rfl rfl rfl h5 ?_
      refine go_n 1 (f := (28, [some (.ref 39), some (.int x1)], [.int (-1), .int (gi σ 26 x1.toNatClampNeg)], σ)) rfl ?_
      refine go_m (f := (36, [none, none], [.int ((if (gi σ 26 x1.toNatClampNeg) ≠ (-1) then 0 else 1) : Int32)], σ)) ?_ (fun hJ8 => ?_)
      · generalize hz7 : ((if (gi σ 26 x1.toNatClampNeg) ≠ (-1) then 0 else 1) : Int32) = z7 at hf ⊢
        have oz7 : am_ok 3 z7 = true := hz7 ▸ (okb rfl rfl)
        try dsimp only at hf
        cases hf
        exact go_ret rfl rfl (Or.inr (Or.inl ⟨rfl, oz7⟩))
      · by_cases h6 : (gi σ 26 x1.toNatClampNeg) ≠ (-1)
        · refine go_it (t := 35) (f := 31) (L1 := [some (.ref 39), some (.int x1)]) (st1 := []) (σ1 := σ) rfl h6 ?_
          refine go_e (L1 := [none, none]) rfl rfl ?_
          refine go_n 1 (f := (36, [none, none], [.int 0], σ)) rfl ?_
          refine go_e (L1 := [none, none]) rfl rfl ?_
          simp only [if_pos h6] at hJ8
          first | exact hJ8 | (simp only [if_pos h6]; exact hJ8)
        · refine go_if (t := 35) (f := 31) (L1 := [some (.ref 39), some (.int x1)]) (st1 := []) (σ1 := σ) rfl h6 ?_
          refine go_n 2 (f := (36, [some (.ref 39), some (.int x1)], [.int 1], σ)) rfl ?_
          refine go_e (L1 := [none, none]) rfl rfl ?_
          simp only [if_neg h6] at hJ8
          first | exact hJ8 | (simp only [if_neg h6]; exact hJ8)
/-! OldWeather$Reading.<init>(IIIIII)V -/
def fX8_init (x0 : Nat) (x1 : Int32) (x2 : Int32) (x3 : Int32) (x4 : Int32) (x5 : Int32) (x6 : Int32) (σ : Sg) : Option Sg :=
  if [17, 18, 19, 20, 21].elem (kk σ x0) = true then if [17, 18, 19, 20, 21].elem (kk σ x0) = true then if [17, 18, 19, 20, 21].elem (kk σ x0) = true then if [17, 18, 19, 20, 21].elem (kk σ x0) = true then if [17, 18, 19, 20, 21].elem (kk σ x0) = true then if [17, 18, 19, 20, 21].elem (kk σ x0) = true then some (wi (wi (wi (wi (wi (wi σ x0 0 x1) x0 1 x2) x0 2 x3) x0 3 x4) x0 4 x5) x0 5 x6) else none else none else none else none else none else none
set_option maxHeartbeats 1500000 in
theorem fX8_init_ok (x0 : Nat) (x1 : Int32) (x2 : Int32) (x3 : Int32) (x4 : Int32) (x5 : Int32) (x6 : Int32) (σ : Sg) (r : Sg) (hf : fX8_init x0 x1 x2 x3 x4 x5 x6 σ = some r) : Cl true 0 12288 [.ref x0, .int x1, .int x2, .int x3, .int x4, .int x5, .int x6] σ (.inl none, r) := by
  refine ⟨iX8_init, rfl, Nat.le_of_ble_eq_true rfl, Nat.le_of_ble_eq_true rfl, ?_⟩
  show Go true 0 iX8_init (0, [some (.ref x0), some (.int x1), some (.int x2), some (.int x3), some (.int x4), some (.int x5), some (.int x6)], [], σ) (.inl none, r)
  unfold fX8_init at hf
  refine go_n 1 (f := (1, [some (.ref x0), some (.int x1), some (.int x2), some (.int x3), some (.int x4), some (.int x5), some (.int x6)], [.ref x0], σ)) rfl ?_
  refine go_b (mid := 20000) (args := [.ref x0]) (pc := 4) (L := [some (.ref x0), some (.int x1), some (.int x2), some (.int x3), some (.int x4), some (.int x5), some (.int x6)]) (st := []) (σ := σ) rfl (by decide) rfl ?_
  refine go_n 2 (f := (6, [some (.ref x0), some (.int x1), some (.int x2), some (.int x3), some (.int x4), some (.int x5), some (.int x6)], [.int x1, .ref x0], σ)) rfl ?_
  obtain ⟨h1, hf⟩ := grd hf
  refine go_puti rfl rfl rfl h1 rfl rfl rfl ?_
  refine go_n 2 (f := (11, [some (.ref x0), some (.int x1), some (.int x2), some (.int x3), some (.int x4), some (.int x5), some (.int x6)], [.int x2, .ref x0], (wi σ x0 0 x1))) rfl ?_
  obtain ⟨h2, hf⟩ := grd hf
  refine go_puti rfl rfl rfl h2 rfl rfl rfl ?_
  refine go_n 2 (f := (16, [some (.ref x0), some (.int x1), some (.int x2), some (.int x3), some (.int x4), some (.int x5), some (.int x6)], [.int x3, .ref x0], (wi (wi σ x0 0 x1) x0 1 x2))) rfl ?_
  obtain ⟨h3, hf⟩ := grd hf
  refine go_puti rfl rfl rfl h3 rfl rfl rfl ?_
  refine go_n 2 (f := (22, [some (.ref x0), some (.int x1), some (.int x2), some (.int x3), some (.int x4), some (.int x5), some (.int x6)], [.int x4, .ref x0], (wi (wi (wi σ x0 0 x1) x0 1 x2) x0 2 x3))) rfl ?_
  obtain ⟨h4, hf⟩ := grd hf
  refine go_puti rfl rfl rfl h4 rfl rfl rfl ?_
  refine go_n 2 (f := (28, [some (.ref x0), some (.int x1), some (.int x2), some (.int x3), some (.int x4), some (.int x5), some (.int x6)], [.int x5, .ref x0], (wi (wi (wi (wi σ x0 0 x1) x0 1 x2) x0 2 x3) x0 3 x4))) rfl ?_
  obtain ⟨h5, hf⟩ := grd hf
  refine go_puti rfl rfl rfl h5 rfl rfl rfl ?_
  refine go_n 2 (f := (34, [some (.ref x0), some (.int x1), some (.int x2), some (.int x3), some (.int x4), some (.int x5), some (.int x6)], [.int x6, .ref x0], (wi (wi (wi (wi (wi σ x0 0 x1) x0 1 x2) x0 2 x3) x0 3 x4) x0 4 x5))) rfl ?_
  obtain ⟨h6, hf⟩ := grd hf
  refine go_puti rfl rfl rfl h6 rfl rfl rfl ?_
  cases hf
  exact go_r rfl
/-! OldWeather$Word.<init>(IIIIII)V -/
def fX9_init (x0 : Nat) (x1 : Int32) (x2 : Int32) (x3 : Int32) (x4 : Int32) (x5 : Int32) (x6 : Int32) (σ : Sg) : Option Sg :=
  (fX8_init x0 x1 x2 x3 x4 x5 x6 σ).bind fun q1 => some q1
set_option maxHeartbeats 1500000 in
theorem fX9_init_ok (x0 : Nat) (x1 : Int32) (x2 : Int32) (x3 : Int32) (x4 : Int32) (x5 : Int32) (x6 : Int32) (σ : Sg) (r : Sg) (hf : fX9_init x0 x1 x2 x3 x4 x5 x6 σ = some r) : Cl true 1 12544 [.ref x0, .int x1, .int x2, .int x3, .int x4, .int x5, .int x6] σ (.inl none, r) := by
  refine ⟨iX9_init, rfl, Nat.le_of_ble_eq_true rfl, Nat.le_of_ble_eq_true rfl, ?_⟩
  show Go true 1 iX9_init (0, [some (.ref x0), some (.int x1), some (.int x2), some (.int x3), some (.int x4), some (.int x5), some (.int x6)], [], σ) (.inl none, r)
  unfold fX9_init at hf
  refine go_n 7 (f := (10, [some (.ref x0), some (.int x1), some (.int x2), some (.int x3), some (.int x4), some (.int x5), some (.int x6)], [.int x6, .int x5, .int x4, .int x3, .int x2, .int x1, .ref x0], σ)) rfl ?_
  obtain ⟨q1, h2, hf⟩ := bnd hf
  refine go_c (mid := 12288) (args := [.ref x0, .int x1, .int x2, .int x3, .int x4, .int x5, .int x6]) (pc := 13) (L := [some (.ref x0), some (.int x1), some (.int x2), some (.int x3), some (.int x4), some (.int x5), some (.int x6)]) (st := []) (σ := σ) rfl ((fX8_init_ok _ _ _ _ _ _ _ _ q1 h2).deep (Nat.le_of_ble_eq_true rfl)) ?_
  cases hf
  exact go_r rfl
/-! java/util/Objects.checkIndex(II)I -/
def fJ12_checkIndex (x0 : Int32) (x1 : Int32) (σ : Sg) : Option Int32 :=
  (fJ13_checkIndex x0 x1 σ).bind fun q1 => some q1
set_option maxHeartbeats 1500000 in
theorem fJ12_checkIndex_ok (x0 : Int32) (x1 : Int32) (σ : Sg) (r : Int32) (hf : fJ12_checkIndex x0 x1 σ = some r) : Cl true 1 1024 [.int x0, .int x1] σ (.inl (some (.int r)), σ) := by
  refine ⟨iJ12_checkIndex, rfl, Nat.le_of_ble_eq_true rfl, Nat.le_of_ble_eq_true rfl, ?_⟩
  show Go true 1 iJ12_checkIndex (0, [some (.int x0), some (.int x1)], [], σ) (.inl (some (.int r)), σ)
  unfold fJ12_checkIndex at hf
  refine go_n 3 (f := (3, [some (.int x0), some (.int x1)], [.null, .int x1, .int x0], σ)) rfl ?_
  obtain ⟨q1, h2, hf⟩ := bnd hf
  refine go_c (mid := 1280) (args := [.int x0, .int x1, .null]) (pc := 6) (L := [some (.int x0), some (.int x1)]) (st := []) (σ := σ) rfl ((fJ13_checkIndex_ok _ _ _ q1 h2).deep (Nat.le_of_ble_eq_true rfl)) ?_
  cases hf
  exact go_r rfl
/-! java/util/ArrayList.get(I)Ljava/lang/Object; -/
def fJ2_get (x0 : Nat) (x1 : Int32) (σ : Sg) : Option Nat :=
  if [16].elem (kk σ x0) = true then (fJ12_checkIndex x1 (gi σ x0 2) σ).bind fun q2 => if (kk σ x0) = 16 then (fJ2_elementData x0 x1 σ).bind fun q5 => some q5 else none else none
set_option maxHeartbeats 1500000 in
theorem fJ2_get_ok (x0 : Nat) (x1 : Int32) (σ : Sg) (r : Nat) (hf : fJ2_get x0 x1 σ = some r) : Cl true 2 2825 [.ref x0, .int x1] σ (.inl (some (.ref r)), σ) := by
  refine ⟨iJ2_get, rfl, Nat.le_of_ble_eq_true rfl, Nat.le_of_ble_eq_true rfl, ?_⟩
  show Go true 2 iJ2_get (0, [some (.ref x0), some (.int x1)], [], σ) (.inl (some (.ref r)), σ)
  unfold fJ2_get at hf
  refine go_n 2 (f := (2, [some (.ref x0), some (.int x1)], [.ref x0, .int x1], σ)) rfl ?_
  obtain ⟨h1, hf⟩ := grd hf
  refine go_get rfl rfl rfl h1 ?_
  obtain ⟨q2, h3, hf⟩ := bnd hf
  refine go_c (mid := 1024) (args := [.int x1, .int (gi σ x0 2)]) (pc := 8) (L := [some (.ref x0), some (.int x1)]) (st := []) (σ := σ) rfl ((fJ12_checkIndex_ok _ _ _ q2 h3).deep (Nat.le_of_ble_eq_true rfl)) ?_
  refine go_n 3 (f := (11, [some (.ref x0), some (.int x1)], [.int x1, .ref x0], σ)) rfl ?_
  obtain ⟨h4, hf⟩ := grd hf
  obtain ⟨q5, h6, hf⟩ := bnd hf
  refine go_c (mid := 2826) (args := [.ref x0, .int x1]) (pc := 14) (L := [some (.ref x0), some (.int x1)]) (st := []) (σ := σ) (stp_callV1 (n := 2) rfl rfl rfl ⟨Nat.le_of_ble_eq_true rfl, Nat.le_of_ble_eq_true rfl⟩ rfl h4 rfl) ((fJ2_elementData_ok _ _ _ q5 h6).deep (Nat.le_of_ble_eq_true rfl)) ?_
  cases hf
  exact go_r rfl
/-! jdk/internal/util/ArraysSupport.newLength(III)I -/
def fJ6_newLength_J21 (x0 : Int32) (x1 : Int32)  (σ : Sg) : Option (Int32 × Sg) :=
  (fJ6_hugeLength x0 x1 σ).bind fun q4 => some (q4.1, q4.2)
set_option maxHeartbeats 1500000 in
theorem fJ6_newLength_J21_ok (x0 : Int32) (x1 : Int32)  (σ : Sg)  (r : (Int32 × Sg)) (hf : fJ6_newLength_J21 x0 x1  σ = some r) : Go true 1 iJ6_newLength (21, [some (.int x0), some (.int x1), none, none], [], σ) (.inl (some (.int (r).1)), (r).2) := by
  unfold fJ6_newLength_J21 at hf
  refine go_n 2 (f := (23, [some (.int x0), some (.int x1), none, none], [.int x1, .int x0], σ)) rfl ?_
  obtain ⟨q4, h5, hf⟩ := bnd hf
  refine go_c (mid := 3841) (args := [.int x0, .int x1]) (pc := 26) (L := [some (.int x0), some (.int x1), none, none]) (st := []) (σ := σ) rfl ((fJ6_hugeLength_ok _ _ _ q4 h5).deep (Nat.le_of_ble_eq_true rfl)) ?_
  cases hf
  exact go_r rfl
def fJ6_newLength (x0 : Int32) (x1 : Int32) (x2 : Int32) (σ : Sg) : Option (Int32 × Sg) :=
  (fJ5_max x1 x2).bind fun q1 => if (x0 + q1) ≤ (0 : Int32) then fJ6_newLength_J21 x0 x1  σ else if 2147483639 < (x0 + q1) then fJ6_newLength_J21 x0 x1  σ else some ((x0 + q1), σ)
set_option maxHeartbeats 1500000 in
theorem fJ6_newLength_ok (x0 : Int32) (x1 : Int32) (x2 : Int32) (σ : Sg) (r : (Int32 × Sg)) (hf : fJ6_newLength x0 x1 x2 σ = some r) : Cl true 1 3840 [.int x0, .int x1, .int x2] σ (.inl (some (.int (r).1)), (r).2) := by
  refine ⟨iJ6_newLength, rfl, Nat.le_of_ble_eq_true rfl, Nat.le_of_ble_eq_true rfl, ?_⟩
  show Go true 1 iJ6_newLength (0, [some (.int x0), some (.int x1), some (.int x2), none], [], σ) (.inl (some (.int (r).1)), (r).2)
  unfold fJ6_newLength at hf
  refine go_n 3 (f := (3, [some (.int x0), some (.int x1), some (.int x2), none], [.int x2, .int x1, .int x0], σ)) rfl ?_
  obtain ⟨q1, h2, hf⟩ := bnd hf
  refine go_c (mid := 3584) (args := [.int x1, .int x2]) (pc := 6) (L := [some (.int x0), some (.int x1), some (.int x2), none]) (st := [.int x0]) (σ := σ) rfl ((fJ5_max_ok _ _ _ q1 h2).deep (Nat.le_of_ble_eq_true rfl)) ?_
  refine go_n 4 (f := (10, [some (.int x0), some (.int x1), some (.int x2), some (.int (x0 + q1))], [.int (x0 + q1), .int 0], σ)) rfl ?_
  by_cases h3 : (x0 + q1) ≤ (0 : Int32)
  · rw [if_pos h3] at hf
    refine go_it (t := 21) (f := 13) (L1 := [some (.int x0), some (.int x1), some (.int x2), some (.int (x0 + q1))]) (st1 := []) (σ1 := σ) rfl h3 ?_
    refine go_e (L1 := [some (.int x0), some (.int x1), none, none]) rfl rfl ?_
    exact fJ6_newLength_J21_ok _ _  _  _ hf
  · rw [if_neg h3] at hf
    refine go_if (t := 21) (f := 13) (L1 := [some (.int x0), some (.int x1), some (.int x2), some (.int (x0 + q1))]) (st1 := []) (σ1 := σ) rfl h3 ?_
    refine go_n 2 (f := (16, [some (.int x0), some (.int x1), some (.int x2), some (.int (x0 + q1))], [.int 2147483639, .int (x0 + q1)], σ)) rfl ?_
    by_cases h6 : 2147483639 < (x0 + q1)
    · rw [if_pos h6] at hf
      refine go_it (t := 21) (f := 19) (L1 := [some (.int x0), some (.int x1), some (.int x2), some (.int (x0 + q1))]) (st1 := []) (σ1 := σ) rfl h6 ?_
      refine go_e (L1 := [some (.int x0), some (.int x1), none, none]) rfl rfl ?_
      exact fJ6_newLength_J21_ok _ _  _  _ hf
    · rw [if_neg h6] at hf
      refine go_if (t := 21) (f := 19) (L1 := [some (.int x0), some (.int x1), some (.int x2), some (.int (x0 + q1))]) (st1 := []) (σ1 := σ) rfl h6 ?_
      refine go_n 1 (f := (20, [some (.int x0), some (.int x1), some (.int x2), some (.int (x0 + q1))], [.int (x0 + q1)], σ)) rfl ?_
      cases hf
      exact go_r rfl
/-! OldWeather.daysOf(III)I -/
def fX0_daysOf (x0 : Int32) (x1 : Int32) (x2 : Int32) : Option Int32 :=
  if x1 = 2 then (fX0_isLong x0 x2).bind fun q2 => ((fun (z5 : Int32) => some z5) ((if q2 = 0 then 28 else 29) : Int32)) else if x1 = 4 then some 30 else if x1 = 6 then some 30 else if x1 = 9 then some 30 else if x1 = 11 then some 30 else some 31
set_option maxHeartbeats 1500000 in
theorem fX0_daysOf_ok (x0 : Int32) (x1 : Int32) (x2 : Int32) (σ : Sg) (r : Int32) (hf : fX0_daysOf x0 x1 x2 = some r) : Cl true 1 5124 [.int x0, .int x1, .int x2] σ (.inl (some (.int r)), σ) := by
  refine ⟨iX0_daysOf, rfl, Nat.le_of_ble_eq_true rfl, Nat.le_of_ble_eq_true rfl, ?_⟩
  show Go true 1 iX0_daysOf (0, [some (.int x0), some (.int x1), some (.int x2)], [], σ) (.inl (some (.int r)), σ)
  unfold fX0_daysOf at hf
  refine go_n 1 (f := (1, [some (.int x0), some (.int x1), some (.int x2)], [.int x1], σ)) rfl ?_
  by_cases h1 : x1 = 2
  · rw [if_pos h1] at hf
    refine go_tsw (t := 56) rfl rfl (by rw [h1]; rfl) ?_
    refine go_n 2 (f := (58, [some (.int x0), some (.int x1), some (.int x2)], [.int x2, .int x0], σ)) rfl ?_
    obtain ⟨q2, h3, hf⟩ := bnd hf
    refine go_c (mid := 5125) (args := [.int x0, .int x2]) (pc := 61) (L := [some (.int x0), some (.int x1), some (.int x2)]) (st := []) (σ := σ) rfl ((fX0_isLong_ok _ _ _ q2 h3).deep (Nat.le_of_ble_eq_true rfl)) ?_
    refine go_m (f := (71, [none, none, none], [.int ((if q2 = 0 then 28 else 29) : Int32)], σ)) ?_ (fun hJ6 => ?_)
    · generalize hz5 : ((if q2 = 0 then 28 else 29) : Int32) = z5 at hf ⊢
      try dsimp only at hf
      cases hf
      exact go_r rfl
    · by_cases h4 : q2 = 0
      · refine go_it (t := 69) (f := 64) (L1 := [some (.int x0), some (.int x1), some (.int x2)]) (st1 := []) (σ1 := σ) rfl h4 ?_
        refine go_n 1 (f := (71, [some (.int x0), some (.int x1), some (.int x2)], [.int 28], σ)) rfl ?_
        refine go_e (L1 := [none, none, none]) rfl rfl ?_
        simp only [if_pos h4] at hJ6
        first | exact hJ6 | (simp only [if_pos h4]; exact hJ6)
      · refine go_if (t := 69) (f := 64) (L1 := [some (.int x0), some (.int x1), some (.int x2)]) (st1 := []) (σ1 := σ) rfl h4 ?_
        refine go_n 2 (f := (71, [some (.int x0), some (.int x1), some (.int x2)], [.int 29], σ)) rfl ?_
        refine go_e (L1 := [none, none, none]) rfl rfl ?_
        simp only [if_neg h4] at hJ6
        first | exact hJ6 | (simp only [if_neg h4]; exact hJ6)
  · rw [if_neg h1] at hf
    by_cases h7 : x1 = 4
    · rw [if_pos h7] at hf
      refine go_tsw (t := 72) rfl rfl (by rw [h7]; rfl) ?_
      refine go_n 1 (f := (74, [some (.int x0), some (.int x1), some (.int x2)], [.int 30], σ)) rfl ?_
      cases hf
      exact go_r rfl
    · rw [if_neg h7] at hf
      by_cases h8 : x1 = 6
      · rw [if_pos h8] at hf
        refine go_tsw (t := 72) rfl rfl (by rw [h8]; rfl) ?_
        refine go_n 1 (f := (74, [some (.int x0), some (.int x1), some (.int x2)], [.int 30], σ)) rfl ?_
        cases hf
        exact go_r rfl
      · rw [if_neg h8] at hf
        by_cases h9 : x1 = 9
        · rw [if_pos h9] at hf
          refine go_tsw (t := 72) rfl rfl (by rw [h9]; rfl) ?_
          refine go_n 1 (f := (74, [some (.int x0), some (.int x1), some (.int x2)], [.int 30], σ)) rfl ?_
          cases hf
          exact go_r rfl
        · rw [if_neg h9] at hf
          by_cases h10 : x1 = 11
          · rw [if_pos h10] at hf
            refine go_tsw (t := 72) rfl rfl (by rw [h10]; rfl) ?_
            refine go_n 1 (f := (74, [some (.int x0), some (.int x1), some (.int x2)], [.int 30], σ)) rfl ?_
            cases hf
            exact go_r rfl
          · rw [if_neg h10] at hf
            have htt : am_ts 1 74 2 11 #[55, 74, 71, 74, 71, 74, 74, 71, 74, 71] x1 = some 75 := by
              have hts : x1.toInt < 2 ∨ 11 < x1.toInt ∨ x1.toInt = 3 ∨ x1.toInt = 5 ∨ x1.toInt = 7 ∨ x1.toInt = 8 ∨ x1.toInt = 10 := by
                have h1t : x1.toInt ≠ 2 := tsn h1
                have h7t : x1.toInt ≠ 4 := tsn h7
                have h8t : x1.toInt ≠ 6 := tsn h8
                have h9t : x1.toInt ≠ 9 := tsn h9
                have h10t : x1.toInt ≠ 11 := tsn h10
                omega
              rcases hts with hts | hts | hts | hts | hts | hts | hts
              · unfold am_ts; rw [if_pos (Or.inl hts)]; rfl
              · unfold am_ts; rw [if_pos (Or.inr hts)]; rfl
              · unfold am_ts; rw [hts]; rfl
              · unfold am_ts; rw [hts]; rfl
              · unfold am_ts; rw [hts]; rfl
              · unfold am_ts; rw [hts]; rfl
              · unfold am_ts; rw [hts]; rfl
            refine go_tsw (t := 75) rfl rfl htt ?_
            refine go_n 1 (f := (77, [some (.int x0), some (.int x1), some (.int x2)], [.int 31], σ)) rfl ?_
            cases hf
            exact go_r rfl
/-! OldWeather.dayAt(IIII)I -/
def fX0_dayAt_L14 (x0 : Int32) (x1 : Int32) (x3 : Int32)  (rec14 : (Int32 × Int32) → Option Int32) (s : Int32 × Int32) : Option Int32 :=
  match s with
  | (x4, x5) => if x1 ≤ x5 then some x4 else (fX0_daysOf x0 x5 x3).bind fun q4 => rec14 ((x4 + q4), (x5 + 1))
set_option maxHeartbeats 1500000 in
theorem fX0_dayAt_L14_ok (x0 : Int32) (x1 : Int32) (x3 : Int32) (σ : Sg)   : ∀ (n : Nat) (x4 : Int32) (x5 : Int32) (r : Int32), lp (fX0_dayAt_L14 x0 x1 x3 ) n (x4, x5) = some r → Go true 2 iX0_dayAt (14, [some (.int x0), some (.int x1), none, some (.int x3), some (.int x4), some (.int x5)], [], σ) (.inl (some (.int r)), σ) := by
  intro n
  induction n with
  | zero => intro x4 x5 r hf; cases hf
  | succ n ih =>
    intro x4 x5 r hf
    have hf : fX0_dayAt_L14 x0 x1 x3  (lp (fX0_dayAt_L14 x0 x1 x3 ) n) (x4, x5) = some r := hf
    have hrec14 := ih
    generalize lp (fX0_dayAt_L14 x0 x1 x3 ) n = rec14 at hf hrec14
    unfold fX0_dayAt_L14 at hf
    dsimp only at hf
    refine go_n 2 (f := (17, [some (.int x0), some (.int x1), none, some (.int x3), some (.int x4), some (.int x5)], [.int x1, .int x5], σ)) rfl ?_
    by_cases h3 : x1 ≤ x5
    · rw [if_pos h3] at hf
      refine go_it (t := 38) (f := 20) (L1 := [some (.int x0), some (.int x1), none, some (.int x3), some (.int x4), some (.int x5)]) (st1 := []) (σ1 := σ) rfl h3 ?_
      refine go_n 1 (f := (40, [some (.int x0), some (.int x1), none, some (.int x3), some (.int x4), some (.int x5)], [.int x4], σ)) rfl ?_
      cases hf
      exact go_r rfl
    · rw [if_neg h3] at hf
      refine go_if (t := 38) (f := 20) (L1 := [some (.int x0), some (.int x1), none, some (.int x3), some (.int x4), some (.int x5)]) (st1 := []) (σ1 := σ) rfl h3 ?_
      refine go_n 4 (f := (26, [some (.int x0), some (.int x1), none, some (.int x3), some (.int x4), some (.int x5)], [.int x3, .int x5, .int x0, .int x4], σ)) rfl ?_
      obtain ⟨q4, h5, hf⟩ := bnd hf
      refine go_c (mid := 5124) (args := [.int x0, .int x5, .int x3]) (pc := 29) (L := [some (.int x0), some (.int x1), none, some (.int x3), some (.int x4), some (.int x5)]) (st := [.int x4]) (σ := σ) rfl ((fX0_daysOf_ok _ _ _ _ q4 h5).deep (Nat.le_of_ble_eq_true rfl)) ?_
      refine go_n 3 (f := (35, [some (.int x0), some (.int x1), none, some (.int x3), some (.int (x4 + q4)), some (.int (x5 + 1))], [], σ)) rfl ?_
      refine go_n 1 (f := (14, [some (.int x0), some (.int x1), none, some (.int x3), some (.int (x4 + q4)), some (.int (x5 + 1))], [], σ)) rfl ?_
      exact hrec14 _ _ _ hf
def fX0_dayAt (x0 : Int32) (x1 : Int32) (x2 : Int32) (x3 : Int32) : Option Int32 :=
  (fX0_yearBegins x0 x3).bind fun q1 => lp (fX0_dayAt_L14 x0 x1 x3 ) N0 (((q1 + x2) - 1), 1)
set_option maxHeartbeats 1500000 in
theorem fX0_dayAt_ok (x0 : Int32) (x1 : Int32) (x2 : Int32) (x3 : Int32) (σ : Sg) (r : Int32) (hf : fX0_dayAt x0 x1 x2 x3 = some r) : Cl true 2 5126 [.int x0, .int x1, .int x2, .int x3] σ (.inl (some (.int r)), σ) := by
  refine ⟨iX0_dayAt, rfl, Nat.le_of_ble_eq_true rfl, Nat.le_of_ble_eq_true rfl, ?_⟩
  show Go true 2 iX0_dayAt (0, [some (.int x0), some (.int x1), some (.int x2), some (.int x3), none, none], [], σ) (.inl (some (.int r)), σ)
  unfold fX0_dayAt at hf
  refine go_n 2 (f := (2, [some (.int x0), some (.int x1), some (.int x2), some (.int x3), none, none], [.int x3, .int x0], σ)) rfl ?_
  obtain ⟨q1, h2, hf⟩ := bnd hf
  refine go_c (mid := 5127) (args := [.int x0, .int x3]) (pc := 5) (L := [some (.int x0), some (.int x1), some (.int x2), some (.int x3), none, none]) (st := []) (σ := σ) rfl ((fX0_yearBegins_ok _ _ _ q1 h2).deep (Nat.le_of_ble_eq_true rfl)) ?_
  refine go_n 7 (f := (14, [some (.int x0), some (.int x1), some (.int x2), some (.int x3), some (.int ((q1 + x2) - 1)), some (.int 1)], [], σ)) rfl ?_
  refine go_e (L1 := [some (.int x0), some (.int x1), none, some (.int x3), some (.int ((q1 + x2) - 1)), some (.int 1)]) rfl rfl ?_
  exact fX0_dayAt_L14_ok _ _ _ _   N0 _ _ _ hf
/-! OldWeather.monthOf(II)I -/
def fX0_monthOf_L17 (x1 : Int32) (x2 : Int32)  (rec17 : (Int32 × Int32) → Option Int32) (s : Int32 × Int32) : Option Int32 :=
  match s with
  | (x3, x4) => (fX0_daysOf x2 x4 x1).bind fun q5 => if x3 < q5 then some x4 else (fX0_daysOf x2 x4 x1).bind fun q8 => rec17 ((x3 - q8), (x4 + 1))
set_option maxHeartbeats 1500000 in
theorem fX0_monthOf_L17_ok (x1 : Int32) (x2 : Int32) (σ : Sg)   : ∀ (n : Nat) (x3 : Int32) (x4 : Int32) (r : Int32), lp (fX0_monthOf_L17 x1 x2 ) n (x3, x4) = some r → Go true 2 iX0_monthOf (17, [none, some (.int x1), some (.int x2), some (.int x3), some (.int x4)], [], σ) (.inl (some (.int r)), σ) := by
  intro n
  induction n with
  | zero => intro x3 x4 r hf; cases hf
  | succ n ih =>
    intro x3 x4 r hf
    have hf : fX0_monthOf_L17 x1 x2  (lp (fX0_monthOf_L17 x1 x2 ) n) (x3, x4) = some r := hf
    have hrec17 := ih
    generalize lp (fX0_monthOf_L17 x1 x2 ) n = rec17 at hf hrec17
    unfold fX0_monthOf_L17 at hf
    dsimp only at hf
    refine go_n 4 (f := (22, [none, some (.int x1), some (.int x2), some (.int x3), some (.int x4)], [.int x1, .int x4, .int x2, .int x3], σ)) rfl ?_
    obtain ⟨q5, h6, hf⟩ := bnd hf
    refine go_c (mid := 5124) (args := [.int x2, .int x4, .int x1]) (pc := 25) (L := [none, some (.int x1), some (.int x2), some (.int x3), some (.int x4)]) (st := [.int x3]) (σ := σ) rfl ((fX0_daysOf_ok _ _ _ _ q5 h6).deep (Nat.le_of_ble_eq_true rfl)) ?_
    by_cases h7 : x3 < q5
    · rw [if_pos h7] at hf
      refine go_it (t := 44) (f := 28) (L1 := [none, some (.int x1), some (.int x2), some (.int x3), some (.int x4)]) (st1 := []) (σ1 := σ) rfl h7 ?_
      refine go_n 1 (f := (46, [none, some (.int x1), some (.int x2), some (.int x3), some (.int x4)], [.int x4], σ)) rfl ?_
      cases hf
      exact go_r rfl
    · rw [if_neg h7] at hf
      refine go_if (t := 44) (f := 28) (L1 := [none, some (.int x1), some (.int x2), some (.int x3), some (.int x4)]) (st1 := []) (σ1 := σ) rfl h7 ?_
      refine go_n 4 (f := (33, [none, some (.int x1), some (.int x2), some (.int x3), some (.int x4)], [.int x1, .int x4, .int x2, .int x3], σ)) rfl ?_
      obtain ⟨q8, h9, hf⟩ := bnd hf
      refine go_c (mid := 5124) (args := [.int x2, .int x4, .int x1]) (pc := 36) (L := [none, some (.int x1), some (.int x2), some (.int x3), some (.int x4)]) (st := [.int x3]) (σ := σ) rfl ((fX0_daysOf_ok _ _ _ _ q8 h9).deep (Nat.le_of_ble_eq_true rfl)) ?_
      refine go_n 3 (f := (41, [none, some (.int x1), some (.int x2), some (.int (x3 - q8)), some (.int (x4 + 1))], [], σ)) rfl ?_
      refine go_n 1 (f := (17, [none, some (.int x1), some (.int x2), some (.int (x3 - q8)), some (.int (x4 + 1))], [], σ)) rfl ?_
      exact hrec17 _ _ _ hf
def fX0_monthOf (x0 : Int32) (x1 : Int32) : Option Int32 :=
  (fX0_yearOf x0 x1).bind fun q1 => (fX0_yearBegins q1 x1).bind fun q3 => lp (fX0_monthOf_L17 x1 q1 ) N0 ((x0 - q3), 1)
set_option maxHeartbeats 1500000 in
theorem fX0_monthOf_ok (x0 : Int32) (x1 : Int32) (σ : Sg) (r : Int32) (hf : fX0_monthOf x0 x1 = some r) : Cl true 2 5131 [.int x0, .int x1] σ (.inl (some (.int r)), σ) := by
  refine ⟨iX0_monthOf, rfl, Nat.le_of_ble_eq_true rfl, Nat.le_of_ble_eq_true rfl, ?_⟩
  show Go true 2 iX0_monthOf (0, [some (.int x0), some (.int x1), none, none, none], [], σ) (.inl (some (.int r)), σ)
  unfold fX0_monthOf at hf
  refine go_n 2 (f := (2, [some (.int x0), some (.int x1), none, none, none], [.int x1, .int x0], σ)) rfl ?_
  obtain ⟨q1, h2, hf⟩ := bnd hf
  refine go_c (mid := 5130) (args := [.int x0, .int x1]) (pc := 5) (L := [some (.int x0), some (.int x1), none, none, none]) (st := []) (σ := σ) rfl ((fX0_yearOf_ok _ _ _ q1 h2).deep (Nat.le_of_ble_eq_true rfl)) ?_
  refine go_n 4 (f := (9, [some (.int x0), some (.int x1), some (.int q1), none, none], [.int x1, .int q1, .int x0], σ)) rfl ?_
  obtain ⟨q3, h4, hf⟩ := bnd hf
  refine go_c (mid := 5127) (args := [.int q1, .int x1]) (pc := 12) (L := [some (.int x0), some (.int x1), some (.int q1), none, none]) (st := [.int x0]) (σ := σ) rfl ((fX0_yearBegins_ok _ _ _ q3 h4).deep (Nat.le_of_ble_eq_true rfl)) ?_
  refine go_n 4 (f := (17, [some (.int x0), some (.int x1), some (.int q1), some (.int (x0 - q3)), some (.int 1)], [], σ)) rfl ?_
  refine go_e (L1 := [none, some (.int x1), some (.int q1), some (.int (x0 - q3)), some (.int 1)]) rfl rfl ?_
  exact fX0_monthOf_L17_ok _ _ _   N0 _ _ _ hf
/-! OldWeather.season(IIII)I -/
def fX0_season_J35   (σ : Sg) : Option (Int32 × Sg) :=
  (fX0_refuse (-1) σ).bind fun q4 => some (q4.1, q4.2)
set_option maxHeartbeats 1500000 in
theorem fX0_season_J35_ok   (σ : Sg)  (r : (Int32 × Sg)) (hf : fX0_season_J35   σ = some r) : Go true 2 iX0_season (35, [some (.ref 0), none, none, none, none], [], σ) (.inl (some (.int (r).1)), (r).2) := by
  unfold fX0_season_J35 at hf
  refine go_n 2 (f := (37, [some (.ref 0), none, none, none, none], [.int (-1), .ref 0], σ)) rfl ?_
  obtain ⟨q4, h5, hf⟩ := bnd hf
  refine go_c (mid := 5133) (args := [.ref 0, .int (-1)]) (pc := 40) (L := [some (.ref 0), none, none, none, none]) (st := []) (σ := σ) rfl ((fX0_refuse_ok _ _ q4 h5).deep (Nat.le_of_ble_eq_true rfl)) ?_
  cases hf
  exact go_r rfl
def fX0_season (x1 : Int32) (x2 : Int32) (x3 : Int32) (x4 : Int32) (σ : Sg) : Option (Int32 × Sg) :=
  (fX0_in x2 1 12).bind fun q1 => if q1 = 0 then fX0_season_J35   σ else (fX0_in x3 (-600) 600).bind fun q6 => if q6 = 0 then fX0_season_J35   σ else (fX0_in x4 0 300).bind fun q9 => if q9 ≠ 0 then (fX0_isPlace x1 σ).bind fun q12 => if q12 ≠ 0 then if inb (((12 * x1) + x2) - 1) 144 then if inb (((12 * x1) + x2) - 1) 144 then (fX0_told 0 (wi (wi σ 11 (((12 * x1) + x2) - 1).toNatClampNeg x3) 12 (((12 * x1) + x2) - 1).toNatClampNeg x4)).bind fun q17 => some (q17.1, q17.2) else none else none else (fX0_refuse (-2) σ).bind fun q19 => some (q19.1, q19.2) else fX0_season_J35   σ
set_option maxHeartbeats 1500000 in
theorem fX0_season_ok (x1 : Int32) (x2 : Int32) (x3 : Int32) (x4 : Int32) (σ : Sg) (r : (Int32 × Sg)) (hf : fX0_season x1 x2 x3 x4 σ = some r) : Cl true 2 5138 [.ref 0, .int x1, .int x2, .int x3, .int x4] σ (.inl (some (.int (r).1)), (r).2) := by
  refine ⟨iX0_season, rfl, Nat.le_of_ble_eq_true rfl, Nat.le_of_ble_eq_true rfl, ?_⟩
  show Go true 2 iX0_season (0, [some (.ref 0), some (.int x1), some (.int x2), some (.int x3), some (.int x4)], [], σ) (.inl (some (.int (r).1)), (r).2)
  unfold fX0_season at hf
  refine go_n 3 (f := (4, [some (.ref 0), some (.int x1), some (.int x2), some (.int x3), some (.int x4)], [.int 12, .int 1, .int x2], σ)) rfl ?_
  obtain ⟨q1, h2, hf⟩ := bnd hf
  refine go_c (mid := 5122) (args := [.int x2, .int 1, .int 12]) (pc := 7) (L := [some (.ref 0), some (.int x1), some (.int x2), some (.int x3), some (.int x4)]) (st := []) (σ := σ) rfl ((fX0_in_ok _ _ _ _ q1 h2).deep (Nat.le_of_ble_eq_true rfl)) ?_
  by_cases h3 : q1 = 0
  · rw [if_pos h3] at hf
    refine go_it (t := 35) (f := 10) (L1 := [some (.ref 0), some (.int x1), some (.int x2), some (.int x3), some (.int x4)]) (st1 := []) (σ1 := σ) rfl h3 ?_
    refine go_e (L1 := [some (.ref 0), none, none, none, none]) rfl rfl ?_
    exact fX0_season_J35_ok   _  _ hf
  · rw [if_neg h3] at hf
    refine go_if (t := 35) (f := 10) (L1 := [some (.ref 0), some (.int x1), some (.int x2), some (.int x3), some (.int x4)]) (st1 := []) (σ1 := σ) rfl h3 ?_
    refine go_n 3 (f := (17, [some (.ref 0), some (.int x1), some (.int x2), some (.int x3), some (.int x4)], [.int 600, .int (-600), .int x3], σ)) rfl ?_
    obtain ⟨q6, h7, hf⟩ := bnd hf
    refine go_c (mid := 5122) (args := [.int x3, .int (-600), .int 600]) (pc := 20) (L := [some (.ref 0), some (.int x1), some (.int x2), some (.int x3), some (.int x4)]) (st := []) (σ := σ) rfl ((fX0_in_ok _ _ _ _ q6 h7).deep (Nat.le_of_ble_eq_true rfl)) ?_
    by_cases h8 : q6 = 0
    · rw [if_pos h8] at hf
      refine go_it (t := 35) (f := 23) (L1 := [some (.ref 0), some (.int x1), some (.int x2), some (.int x3), some (.int x4)]) (st1 := []) (σ1 := σ) rfl h8 ?_
      refine go_e (L1 := [some (.ref 0), none, none, none, none]) rfl rfl ?_
      exact fX0_season_J35_ok   _  _ hf
    · rw [if_neg h8] at hf
      refine go_if (t := 35) (f := 23) (L1 := [some (.ref 0), some (.int x1), some (.int x2), some (.int x3), some (.int x4)]) (st1 := []) (σ1 := σ) rfl h8 ?_
      refine go_n 3 (f := (29, [some (.ref 0), some (.int x1), some (.int x2), some (.int x3), some (.int x4)], [.int 300, .int 0, .int x4], σ)) rfl ?_
      obtain ⟨q9, h10, hf⟩ := bnd hf
      refine go_c (mid := 5122) (args := [.int x4, .int 0, .int 300]) (pc := 32) (L := [some (.ref 0), some (.int x1), some (.int x2), some (.int x3), some (.int x4)]) (st := []) (σ := σ) rfl ((fX0_in_ok _ _ _ _ q9 h10).deep (Nat.le_of_ble_eq_true rfl)) ?_
      by_cases h11 : q9 ≠ 0
      · rw [if_pos h11] at hf
        refine go_it (t := 41) (f := 35) (L1 := [some (.ref 0), some (.int x1), some (.int x2), some (.int x3), some (.int x4)]) (st1 := []) (σ1 := σ) rfl h11 ?_
        refine go_n 2 (f := (43, [some (.ref 0), some (.int x1), some (.int x2), some (.int x3), some (.int x4)], [.int x1, .ref 0], σ)) rfl ?_
        obtain ⟨q12, h13, hf⟩ := bnd hf
        refine go_c (mid := 5139) (args := [.ref 0, .int x1]) (pc := 46) (L := [some (.ref 0), some (.int x1), some (.int x2), some (.int x3), some (.int x4)]) (st := []) (σ := σ) rfl ((fX0_isPlace_ok _ _ q12 h13).deep (Nat.le_of_ble_eq_true rfl)) ?_
        by_cases h14 : q12 ≠ 0
        · rw [if_pos h14] at hf
          refine go_it (t := 56) (f := 49) (L1 := [some (.ref 0), some (.int x1), some (.int x2), some (.int x3), some (.int x4)]) (st1 := []) (σ1 := σ) rfl h14 ?_
          refine go_n 10 (f := (71, [some (.ref 0), some (.int x1), some (.int x2), some (.int x3), some (.int x4)], [.int (((12 * x1) + x2) - 1), .ref 11], σ)) rfl ?_
          refine go_n 1 (f := (72, [some (.ref 0), some (.int x1), some (.int x2), some (.int x3), some (.int x4)], [.int x3, .int (((12 * x1) + x2) - 1), .ref 11], σ)) rfl ?_
          obtain ⟨h15, hf⟩ := grd hf
          refine go_iast rfl rfl rfl h15 ?_
          refine go_n 10 (f := (88, [some (.ref 0), some (.int x1), some (.int x2), some (.int x3), some (.int x4)], [.int (((12 * x1) + x2) - 1), .ref 12], (wi σ 11 (((12 * x1) + x2) - 1).toNatClampNeg x3))) rfl ?_
          refine go_n 1 (f := (90, [some (.ref 0), some (.int x1), some (.int x2), some (.int x3), some (.int x4)], [.int x4, .int (((12 * x1) + x2) - 1), .ref 12], (wi σ 11 (((12 * x1) + x2) - 1).toNatClampNeg x3))) rfl ?_
          obtain ⟨h16, hf⟩ := grd hf
          refine go_iast rfl rfl rfl h16 ?_
          refine go_n 2 (f := (93, [some (.ref 0), some (.int x1), some (.int x2), some (.int x3), some (.int x4)], [.int 0, .ref 0], (wi (wi σ 11 (((12 * x1) + x2) - 1).toNatClampNeg x3) 12 (((12 * x1) + x2) - 1).toNatClampNeg x4))) rfl ?_
          obtain ⟨q17, h18, hf⟩ := bnd hf
          refine go_c (mid := 5136) (args := [.ref 0, .int 0]) (pc := 96) (L := [some (.ref 0), some (.int x1), some (.int x2), some (.int x3), some (.int x4)]) (st := []) (σ := (wi (wi σ 11 (((12 * x1) + x2) - 1).toNatClampNeg x3) 12 (((12 * x1) + x2) - 1).toNatClampNeg x4)) rfl ((fX0_told_ok _ _ q17 h18).deep (Nat.le_of_ble_eq_true rfl)) ?_
          cases hf
          exact go_r rfl
        · rw [if_neg h14] at hf
          refine go_if (t := 56) (f := 49) (L1 := [some (.ref 0), some (.int x1), some (.int x2), some (.int x3), some (.int x4)]) (st1 := []) (σ1 := σ) rfl h14 ?_
          refine go_n 2 (f := (52, [some (.ref 0), some (.int x1), some (.int x2), some (.int x3), some (.int x4)], [.int (-2), .ref 0], σ)) rfl ?_
          obtain ⟨q19, h20, hf⟩ := bnd hf
          refine go_c (mid := 5133) (args := [.ref 0, .int (-2)]) (pc := 55) (L := [some (.ref 0), some (.int x1), some (.int x2), some (.int x3), some (.int x4)]) (st := []) (σ := σ) rfl ((fX0_refuse_ok _ _ q19 h20).deep (Nat.le_of_ble_eq_true rfl)) ?_
          cases hf
          exact go_r rfl
      · rw [if_neg h11] at hf
        refine go_if (t := 41) (f := 35) (L1 := [some (.ref 0), some (.int x1), some (.int x2), some (.int x3), some (.int x4)]) (st1 := []) (σ1 := σ) rfl h11 ?_
        refine go_e (L1 := [some (.ref 0), none, none, none, none]) rfl rfl ?_
        exact fX0_season_J35_ok   _  _ hf
/-! OldWeather.turn(II)I -/
def fX0_turn (x1 : Int32) (x2 : Int32) (σ : Sg) : Option (Int32 × Sg) :=
  (fX0_in x2 0 110000).bind fun q1 => if q1 ≠ 0 then (fX0_isSource x1 σ).bind fun q4 => if q4 ≠ 0 then if inb x1 16 then if (gi σ 16 x1.toNatClampNeg) = (-1) then if inb x1 16 then (fX0_told 0 (wi σ 16 x1.toNatClampNeg x2)).bind fun q10 => some (q10.1, q10.2) else none else (fX0_refuse (-4) σ).bind fun q12 => some (q12.1, q12.2) else none else (fX0_refuse (-2) σ).bind fun q14 => some (q14.1, q14.2) else (fX0_refuse (-1) σ).bind fun q16 => some (q16.1, q16.2)
set_option maxHeartbeats 1500000 in
theorem fX0_turn_ok (x1 : Int32) (x2 : Int32) (σ : Sg) (r : (Int32 × Sg)) (hf : fX0_turn x1 x2 σ = some r) : Cl true 2 5142 [.ref 0, .int x1, .int x2] σ (.inl (some (.int (r).1)), (r).2) := by
  refine ⟨iX0_turn, rfl, Nat.le_of_ble_eq_true rfl, Nat.le_of_ble_eq_true rfl, ?_⟩
  show Go true 2 iX0_turn (0, [some (.ref 0), some (.int x1), some (.int x2)], [], σ) (.inl (some (.int (r).1)), (r).2)
  unfold fX0_turn at hf
  refine go_n 3 (f := (4, [some (.ref 0), some (.int x1), some (.int x2)], [.int 110000, .int 0, .int x2], σ)) rfl ?_
  obtain ⟨q1, h2, hf⟩ := bnd hf
  refine go_c (mid := 5122) (args := [.int x2, .int 0, .int 110000]) (pc := 7) (L := [some (.ref 0), some (.int x1), some (.int x2)]) (st := []) (σ := σ) rfl ((fX0_in_ok _ _ _ _ q1 h2).deep (Nat.le_of_ble_eq_true rfl)) ?_
  by_cases h3 : q1 ≠ 0
  · rw [if_pos h3] at hf
    refine go_it (t := 16) (f := 10) (L1 := [some (.ref 0), some (.int x1), some (.int x2)]) (st1 := []) (σ1 := σ) rfl h3 ?_
    refine go_n 2 (f := (18, [some (.ref 0), some (.int x1), some (.int x2)], [.int x1, .ref 0], σ)) rfl ?_
    obtain ⟨q4, h5, hf⟩ := bnd hf
    refine go_c (mid := 5143) (args := [.ref 0, .int x1]) (pc := 21) (L := [some (.ref 0), some (.int x1), some (.int x2)]) (st := []) (σ := σ) rfl ((fX0_isSource_ok _ _ q4 h5).deep (Nat.le_of_ble_eq_true rfl)) ?_
    by_cases h6 : q4 ≠ 0
    · rw [if_pos h6] at hf
      refine go_it (t := 31) (f := 24) (L1 := [some (.ref 0), some (.int x1), some (.int x2)]) (st1 := []) (σ1 := σ) rfl h6 ?_
      refine go_n 4 (f := (39, [some (.ref 0), some (.int x1), some (.int x2)], [.int x1, .ref 16], σ)) rfl ?_
      obtain ⟨h7, hf⟩ := grd hf
      refine go_iald rfl rfl rfl h7 ?_
      refine go_n 1 (f := (41, [some (.ref 0), some (.int x1), some (.int x2)], [.int (-1), .int (gi σ 16 x1.toNatClampNeg)], σ)) rfl ?_
      by_cases h8 : (gi σ 16 x1.toNatClampNeg) = (-1)
      · rw [if_pos h8] at hf
        refine go_it (t := 51) (f := 44) (L1 := [some (.ref 0), some (.int x1), some (.int x2)]) (st1 := []) (σ1 := σ) rfl h8 ?_
        refine go_n 5 (f := (60, [some (.ref 0), some (.int x1), some (.int x2)], [.int x2, .int x1, .ref 16], σ)) rfl ?_
        obtain ⟨h9, hf⟩ := grd hf
        refine go_iast rfl rfl rfl h9 ?_
        refine go_n 2 (f := (63, [some (.ref 0), some (.int x1), some (.int x2)], [.int 0, .ref 0], (wi σ 16 x1.toNatClampNeg x2))) rfl ?_
        obtain ⟨q10, h11, hf⟩ := bnd hf
        refine go_c (mid := 5136) (args := [.ref 0, .int 0]) (pc := 66) (L := [some (.ref 0), some (.int x1), some (.int x2)]) (st := []) (σ := (wi σ 16 x1.toNatClampNeg x2)) rfl ((fX0_told_ok _ _ q10 h11).deep (Nat.le_of_ble_eq_true rfl)) ?_
        cases hf
        exact go_r rfl
      · rw [if_neg h8] at hf
        refine go_if (t := 51) (f := 44) (L1 := [some (.ref 0), some (.int x1), some (.int x2)]) (st1 := []) (σ1 := σ) rfl h8 ?_
        refine go_n 2 (f := (47, [some (.ref 0), some (.int x1), some (.int x2)], [.int (-4), .ref 0], σ)) rfl ?_
        obtain ⟨q12, h13, hf⟩ := bnd hf
        refine go_c (mid := 5133) (args := [.ref 0, .int (-4)]) (pc := 50) (L := [some (.ref 0), some (.int x1), some (.int x2)]) (st := []) (σ := σ) rfl ((fX0_refuse_ok _ _ q12 h13).deep (Nat.le_of_ble_eq_true rfl)) ?_
        cases hf
        exact go_r rfl
    · rw [if_neg h6] at hf
      refine go_if (t := 31) (f := 24) (L1 := [some (.ref 0), some (.int x1), some (.int x2)]) (st1 := []) (σ1 := σ) rfl h6 ?_
      refine go_n 2 (f := (27, [some (.ref 0), some (.int x1), some (.int x2)], [.int (-2), .ref 0], σ)) rfl ?_
      obtain ⟨q14, h15, hf⟩ := bnd hf
      refine go_c (mid := 5133) (args := [.ref 0, .int (-2)]) (pc := 30) (L := [some (.ref 0), some (.int x1), some (.int x2)]) (st := []) (σ := σ) rfl ((fX0_refuse_ok _ _ q14 h15).deep (Nat.le_of_ble_eq_true rfl)) ?_
      cases hf
      exact go_r rfl
  · rw [if_neg h3] at hf
    refine go_if (t := 16) (f := 10) (L1 := [some (.ref 0), some (.int x1), some (.int x2)]) (st1 := []) (σ1 := σ) rfl h3 ?_
    refine go_n 2 (f := (12, [some (.ref 0), some (.int x1), some (.int x2)], [.int (-1), .ref 0], σ)) rfl ?_
    obtain ⟨q16, h17, hf⟩ := bnd hf
    refine go_c (mid := 5133) (args := [.ref 0, .int (-1)]) (pc := 15) (L := [some (.ref 0), some (.int x1), some (.int x2)]) (st := []) (σ := σ) rfl ((fX0_refuse_ok _ _ q16 h17).deep (Nat.le_of_ble_eq_true rfl)) ?_
    cases hf
    exact go_r rfl
/-! OldWeather.as(II)I -/
def fX0_as (x1 : Int32) (x2 : Int32) (σ : Sg) : Option (Int32 × Sg) :=
  (fX0_isReading x1 σ).bind fun q1 => if q1 ≠ 0 then (fJ2_get 2 x1 σ).bind fun q4 => if [17, 18, 19, 20, 21].elem (kk σ q4) = true then if x2 = 0 then if [17, 19].elem (kk σ q4) = true then if [17, 19].elem (kk σ q4) = true then if inb (gi σ q4 0) 200 then some ((gi σ 18 (gi σ q4 0).toNatClampNeg), σ) else none else none else if 17 ≤ (kk σ q4) ∧ (kk σ q4) ≤ 21 then some ((-100000), (bmp σ)) else none else if x2 = 1 then if [18].elem (kk σ q4) = true then if [18].elem (kk σ q4) = true then if inb (gi σ q4 0) 200 then some ((gi σ 18 (gi σ q4 0).toNatClampNeg), σ) else none else none else if 17 ≤ (kk σ q4) ∧ (kk σ q4) ≤ 21 then some ((-100000), (bmp σ)) else none else if x2 = 2 then if [19].elem (kk σ q4) = true then if [19].elem (kk σ q4) = true then if inb (gi σ q4 0) 200 then some ((gi σ 18 (gi σ q4 0).toNatClampNeg), σ) else none else none else if 17 ≤ (kk σ q4) ∧ (kk σ q4) ≤ 21 then some ((-100000), (bmp σ)) else none else if x2 = 3 then if [20].elem (kk σ q4) = true then if [20].elem (kk σ q4) = true then if inb (gi σ q4 0) 200 then some ((gi σ 18 (gi σ q4 0).toNatClampNeg), σ) else none else none else if 17 ≤ (kk σ q4) ∧ (kk σ q4) ≤ 21 then some ((-100000), (bmp σ)) else none else if x2 = 4 then if [21].elem (kk σ q4) = true then if [21].elem (kk σ q4) = true then if inb (gi σ q4 0) 200 then some ((gi σ 18 (gi σ q4 0).toNatClampNeg), σ) else none else none else if 17 ≤ (kk σ q4) ∧ (kk σ q4) ≤ 21 then some ((-100000), (bmp σ)) else none else some ((-100000), σ) else none else some ((-100000), σ)
set_option maxHeartbeats 1500000 in
theorem fX0_as_ok (x1 : Int32) (x2 : Int32) (σ : Sg) (r : (Int32 × Sg)) (hf : fX0_as x1 x2 σ = some r) : Cl true 3 5160 [.ref 0, .int x1, .int x2] σ (.inl (some (.int (r).1)), (r).2) := by
  refine ⟨iX0_as, rfl, Nat.le_of_ble_eq_true rfl, Nat.le_of_ble_eq_true rfl, ?_⟩
  show Go true 3 iX0_as (0, [some (.ref 0), some (.int x1), some (.int x2), none, none], [], σ) (.inl (some (.int (r).1)), (r).2)
  unfold fX0_as at hf
  refine go_n 2 (f := (2, [some (.ref 0), some (.int x1), some (.int x2), none, none], [.int x1, .ref 0], σ)) rfl ?_
  obtain ⟨q1, h2, hf⟩ := bnd hf
  refine go_c (mid := 5153) (args := [.ref 0, .int x1]) (pc := 5) (L := [some (.ref 0), some (.int x1), some (.int x2), none, none]) (st := []) (σ := σ) rfl ((fX0_isReading_ok _ _ q1 h2).deep (Nat.le_of_ble_eq_true rfl)) ?_
  by_cases h3 : q1 ≠ 0
  · rw [if_pos h3] at hf
    refine go_it (t := 12) (f := 8) (L1 := [some (.ref 0), some (.int x1), some (.int x2), none, none]) (st1 := []) (σ1 := σ) rfl h3 ?_
    refine go_n 4 (f := (20, [some (.ref 0), some (.int x1), some (.int x2), none, none], [.int x1, .ref 2], σ)) rfl ?_
    obtain ⟨q4, h5, hf⟩ := bnd hf
    refine go_c (mid := 2825) (args := [.ref 2, .int x1]) (pc := 23) (L := [some (.ref 0), some (.int x1), some (.int x2), none, none]) (st := []) (σ := σ) rfl ((fJ2_get_ok _ _ _ q4 h5).deep (Nat.le_of_ble_eq_true rfl)) ?_
    obtain ⟨h6, hf⟩ := grd hf
    refine go_cast rfl rfl rfl h6 ?_
    refine go_n 2 (f := (28, [some (.ref 0), some (.int x1), some (.int x2), some (.ref q4), none], [.int x2], σ)) rfl ?_
    by_cases h7 : x2 = 0
    · rw [if_pos h7] at hf
      refine go_tsw (t := 64) rfl rfl (by rw [h7]; rfl) ?_
      refine go_n 4 (f := (72, [some (.ref 0), some (.int x1), some (.int x2), some (.ref q4), none], [.ref q4, .ref 18], σ)) rfl ?_
      by_cases h8 : [17, 19].elem (kk σ q4) = true
      · rw [if_pos h8] at hf
        refine go_cast rfl rfl rfl h8 ?_
        obtain ⟨h10, hf⟩ := grd hf
        refine go_get rfl rfl rfl h10 ?_
        obtain ⟨h11, hf⟩ := grd hf
        refine go_iald rfl rfl rfl h11 ?_
        cases hf
        exact go_r rfl
      · rw [if_neg h8] at hf
        obtain ⟨h9, hf⟩ := grd hf
        refine go_castx (f := (150, [none, none, none, none, none], [], (bmp σ))) rfl rfl rfl h8 h9 (Nat.le_of_ble_eq_true rfl) rfl ?_
        refine go_n 1 (f := (153, [none, none, none, none, none], [.int (-100000)], (bmp σ))) rfl ?_
        cases hf
        exact go_r rfl
    · rw [if_neg h7] at hf
      by_cases h12 : x2 = 1
      · rw [if_pos h12] at hf
        refine go_tsw (t := 80) rfl rfl (by rw [h12]; rfl) ?_
        refine go_n 4 (f := (88, [some (.ref 0), some (.int x1), some (.int x2), some (.ref q4), none], [.ref q4, .ref 18], σ)) rfl ?_
        by_cases h13 : [18].elem (kk σ q4) = true
        · rw [if_pos h13] at hf
          refine go_cast rfl rfl rfl h13 ?_
          obtain ⟨h15, hf⟩ := grd hf
          refine go_get rfl rfl rfl h15 ?_
          obtain ⟨h16, hf⟩ := grd hf
          refine go_iald rfl rfl rfl h16 ?_
          cases hf
          exact go_r rfl
        · rw [if_neg h13] at hf
          obtain ⟨h14, hf⟩ := grd hf
          refine go_castx (f := (150, [none, none, none, none, none], [], (bmp σ))) rfl rfl rfl h13 h14 (Nat.le_of_ble_eq_true rfl) rfl ?_
          refine go_n 1 (f := (153, [none, none, none, none, none], [.int (-100000)], (bmp σ))) rfl ?_
          cases hf
          exact go_r rfl
      · rw [if_neg h12] at hf
        by_cases h17 : x2 = 2
        · rw [if_pos h17] at hf
          refine go_tsw (t := 96) rfl rfl (by rw [h17]; rfl) ?_
          refine go_n 4 (f := (104, [some (.ref 0), some (.int x1), some (.int x2), some (.ref q4), none], [.ref q4, .ref 18], σ)) rfl ?_
          by_cases h18 : [19].elem (kk σ q4) = true
          · rw [if_pos h18] at hf
            refine go_cast rfl rfl rfl h18 ?_
            obtain ⟨h20, hf⟩ := grd hf
            refine go_get rfl rfl rfl h20 ?_
            obtain ⟨h21, hf⟩ := grd hf
            refine go_iald rfl rfl rfl h21 ?_
            cases hf
            exact go_r rfl
          · rw [if_neg h18] at hf
            obtain ⟨h19, hf⟩ := grd hf
            refine go_castx (f := (150, [none, none, none, none, none], [], (bmp σ))) rfl rfl rfl h18 h19 (Nat.le_of_ble_eq_true rfl) rfl ?_
            refine go_n 1 (f := (153, [none, none, none, none, none], [.int (-100000)], (bmp σ))) rfl ?_
            cases hf
            exact go_r rfl
        · rw [if_neg h17] at hf
          by_cases h22 : x2 = 3
          · rw [if_pos h22] at hf
            refine go_tsw (t := 112) rfl rfl (by rw [h22]; rfl) ?_
            refine go_n 4 (f := (120, [some (.ref 0), some (.int x1), some (.int x2), some (.ref q4), none], [.ref q4, .ref 18], σ)) rfl ?_
            by_cases h23 : [20].elem (kk σ q4) = true
            · rw [if_pos h23] at hf
              refine go_cast rfl rfl rfl h23 ?_
              obtain ⟨h25, hf⟩ := grd hf
              refine go_get rfl rfl rfl h25 ?_
              obtain ⟨h26, hf⟩ := grd hf
              refine go_iald rfl rfl rfl h26 ?_
              cases hf
              exact go_r rfl
            · rw [if_neg h23] at hf
              obtain ⟨h24, hf⟩ := grd hf
              refine go_castx (f := (150, [none, none, none, none, none], [], (bmp σ))) rfl rfl rfl h23 h24 (Nat.le_of_ble_eq_true rfl) rfl ?_
              refine go_n 1 (f := (153, [none, none, none, none, none], [.int (-100000)], (bmp σ))) rfl ?_
              cases hf
              exact go_r rfl
          · rw [if_neg h22] at hf
            by_cases h27 : x2 = 4
            · rw [if_pos h27] at hf
              refine go_tsw (t := 128) rfl rfl (by rw [h27]; rfl) ?_
              refine go_n 4 (f := (136, [some (.ref 0), some (.int x1), some (.int x2), some (.ref q4), none], [.ref q4, .ref 18], σ)) rfl ?_
              by_cases h28 : [21].elem (kk σ q4) = true
              · rw [if_pos h28] at hf
                refine go_cast rfl rfl rfl h28 ?_
                obtain ⟨h30, hf⟩ := grd hf
                refine go_get rfl rfl rfl h30 ?_
                obtain ⟨h31, hf⟩ := grd hf
                refine go_iald rfl rfl rfl h31 ?_
                cases hf
                exact go_r rfl
              · rw [if_neg h28] at hf
                obtain ⟨h29, hf⟩ := grd hf
                refine go_castx (f := (150, [none, none, none, none, none], [], (bmp σ))) rfl rfl rfl h28 h29 (Nat.le_of_ble_eq_true rfl) rfl ?_
                refine go_n 1 (f := (153, [none, none, none, none, none], [.int (-100000)], (bmp σ))) rfl ?_
                cases hf
                exact go_r rfl
            · rw [if_neg h27] at hf
              have htt : am_ts 28 116 0 4 #[36, 52, 68, 84, 100] x2 = some 144 := by
                have hts : x2.toInt < 0 ∨ 4 < x2.toInt := by
                  have h7t : x2.toInt ≠ 0 := tsn h7
                  have h12t : x2.toInt ≠ 1 := tsn h12
                  have h17t : x2.toInt ≠ 2 := tsn h17
                  have h22t : x2.toInt ≠ 3 := tsn h22
                  have h27t : x2.toInt ≠ 4 := tsn h27
                  omega
                unfold am_ts; rw [if_pos hts]; rfl
              refine go_tsw (t := 144) rfl rfl htt ?_
              refine go_n 1 (f := (147, [some (.ref 0), some (.int x1), some (.int x2), some (.ref q4), none], [.int (-100000)], σ)) rfl ?_
              cases hf
              exact go_r rfl
  · rw [if_neg h3] at hf
    refine go_if (t := 12) (f := 8) (L1 := [some (.ref 0), some (.int x1), some (.int x2), none, none]) (st1 := []) (σ1 := σ) rfl h3 ?_
    refine go_n 1 (f := (11, [some (.ref 0), some (.int x1), some (.int x2), none, none], [.int (-100000)], σ)) rfl ?_
    cases hf
    exact go_r rfl
/-! OldWeather.feed(IIIII)I -/
def fX0_feed (x1 : Int32) (x2 : Int32) (x3 : Int32) (x4 : Int32) (x5 : Int32) (σ : Sg) : Option (Int32 × Sg) :=
  if ((gi σ 0 8) + 20) ≤ 400 then (fX0_four x1 σ).bind fun q2 => (fX0_four x2 q2).bind fun q4 => (fX0_four x3 q4).bind fun q6 => (fX0_four x4 q6).bind fun q8 => (fX0_four x5 q8).bind fun q10 => some ((gi q10 0 8), q10) else some ((-1), σ)
set_option maxHeartbeats 1500000 in
theorem fX0_feed_ok (x1 : Int32) (x2 : Int32) (x3 : Int32) (x4 : Int32) (x5 : Int32) (σ : Sg) (r : (Int32 × Sg)) (hf : fX0_feed x1 x2 x3 x4 x5 σ = some r) : Cl true 1 5161 [.ref 0, .int x1, .int x2, .int x3, .int x4, .int x5] σ (.inl (some (.int (r).1)), (r).2) := by
  refine ⟨iX0_feed, rfl, Nat.le_of_ble_eq_true rfl, Nat.le_of_ble_eq_true rfl, ?_⟩
  show Go true 1 iX0_feed (0, [some (.ref 0), some (.int x1), some (.int x2), some (.int x3), some (.int x4), some (.int x5)], [], σ) (.inl (some (.int (r).1)), (r).2)
  unfold fX0_feed at hf
  refine go_n 5 (f := (10, [some (.ref 0), some (.int x1), some (.int x2), some (.int x3), some (.int x4), some (.int x5)], [.int 400, .int ((gi σ 0 8) + 20)], σ)) rfl ?_
  by_cases h1 : ((gi σ 0 8) + 20) ≤ 400
  · rw [if_pos h1] at hf
    refine go_it (t := 15) (f := 13) (L1 := [some (.ref 0), some (.int x1), some (.int x2), some (.int x3), some (.int x4), some (.int x5)]) (st1 := []) (σ1 := σ) rfl h1 ?_
    refine go_n 2 (f := (17, [some (.ref 0), some (.int x1), some (.int x2), some (.int x3), some (.int x4), some (.int x5)], [.int x1, .ref 0], σ)) rfl ?_
    obtain ⟨q2, h3, hf⟩ := bnd hf
    refine go_c (mid := 5162) (args := [.ref 0, .int x1]) (pc := 20) (L := [some (.ref 0), some (.int x1), some (.int x2), some (.int x3), some (.int x4), some (.int x5)]) (st := []) (σ := σ) rfl ((fX0_four_ok _ _ q2 h3).deep (Nat.le_of_ble_eq_true rfl)) ?_
    refine go_n 2 (f := (22, [some (.ref 0), some (.int x1), some (.int x2), some (.int x3), some (.int x4), some (.int x5)], [.int x2, .ref 0], q2)) rfl ?_
    obtain ⟨q4, h5, hf⟩ := bnd hf
    refine go_c (mid := 5162) (args := [.ref 0, .int x2]) (pc := 25) (L := [some (.ref 0), some (.int x1), some (.int x2), some (.int x3), some (.int x4), some (.int x5)]) (st := []) (σ := q2) rfl ((fX0_four_ok _ _ q4 h5).deep (Nat.le_of_ble_eq_true rfl)) ?_
    refine go_n 2 (f := (27, [some (.ref 0), some (.int x1), some (.int x2), some (.int x3), some (.int x4), some (.int x5)], [.int x3, .ref 0], q4)) rfl ?_
    obtain ⟨q6, h7, hf⟩ := bnd hf
    refine go_c (mid := 5162) (args := [.ref 0, .int x3]) (pc := 30) (L := [some (.ref 0), some (.int x1), some (.int x2), some (.int x3), some (.int x4), some (.int x5)]) (st := []) (σ := q4) rfl ((fX0_four_ok _ _ q6 h7).deep (Nat.le_of_ble_eq_true rfl)) ?_
    refine go_n 2 (f := (33, [some (.ref 0), some (.int x1), some (.int x2), some (.int x3), some (.int x4), some (.int x5)], [.int x4, .ref 0], q6)) rfl ?_
    obtain ⟨q8, h9, hf⟩ := bnd hf
    refine go_c (mid := 5162) (args := [.ref 0, .int x4]) (pc := 36) (L := [some (.ref 0), some (.int x1), some (.int x2), some (.int x3), some (.int x4), some (.int x5)]) (st := []) (σ := q6) rfl ((fX0_four_ok _ _ q8 h9).deep (Nat.le_of_ble_eq_true rfl)) ?_
    refine go_n 2 (f := (39, [some (.ref 0), some (.int x1), some (.int x2), some (.int x3), some (.int x4), some (.int x5)], [.int x5, .ref 0], q8)) rfl ?_
    obtain ⟨q10, h11, hf⟩ := bnd hf
    refine go_c (mid := 5162) (args := [.ref 0, .int x5]) (pc := 42) (L := [some (.ref 0), some (.int x1), some (.int x2), some (.int x3), some (.int x4), some (.int x5)]) (st := []) (σ := q8) rfl ((fX0_four_ok _ _ q10 h11).deep (Nat.le_of_ble_eq_true rfl)) ?_
    refine go_n 2 (f := (46, [some (.ref 0), some (.int x1), some (.int x2), some (.int x3), some (.int x4), some (.int x5)], [.int (gi q10 0 8)], q10)) rfl ?_
    cases hf
    exact go_r rfl
  · rw [if_neg h1] at hf
    refine go_if (t := 15) (f := 13) (L1 := [some (.ref 0), some (.int x1), some (.int x2), some (.int x3), some (.int x4), some (.int x5)]) (st1 := []) (σ1 := σ) rfl h1 ?_
    refine go_n 1 (f := (14, [some (.ref 0), some (.int x1), some (.int x2), some (.int x3), some (.int x4), some (.int x5)], [.int (-1)], σ)) rfl ?_
    cases hf
    exact go_r rfl
/-! OldWeather.isKnown(II)Z -/
def fX0_isKnown (x1 : Int32) (x2 : Int32) (σ : Sg) : Option Int32 :=
  (fJ2_get 2 x1 σ).bind fun q1 => if [17, 18, 19, 20, 21].elem (kk σ q1) = true then if [17, 18, 19, 20, 21].elem (kk σ q1) = true then if x2 < (gi σ q1 5) then some 0 else if inb x1 200 then if (gi σ 19 x1.toNatClampNeg) = (-1) then some 1 else if inb x1 200 then ((fun (z10 : Int32) => some z10) ((if (gi σ 19 x1.toNatClampNeg) ≤ x2 then 0 else 1) : Int32)) else none else none else none else none
set_option maxHeartbeats 1500000 in
theorem fX0_isKnown_ok (x1 : Int32) (x2 : Int32) (σ : Sg) (r : Int32) (hf : fX0_isKnown x1 x2 σ = some r) : Cl true 3 5170 [.ref 0, .int x1, .int x2] σ (.inl (some (.int r)), σ) := by
  refine ⟨iX0_isKnown, rfl, Nat.le_of_ble_eq_true rfl, Nat.le_of_ble_eq_true rfl, ?_⟩
  show Go true 3 iX0_isKnown (0, [some (.ref 0), some (.int x1), some (.int x2)], [], σ) (.inl (some (.int r)), σ)
  unfold fX0_isKnown at hf
  refine go_n 4 (f := (8, [some (.ref 0), some (.int x1), some (.int x2)], [.int x1, .ref 2], σ)) rfl ?_
  obtain ⟨q1, h2, hf⟩ := bnd hf
  refine go_c (mid := 2825) (args := [.ref 2, .int x1]) (pc := 11) (L := [some (.ref 0), some (.int x1), some (.int x2)]) (st := []) (σ := σ) rfl ((fJ2_get_ok _ _ _ q1 h2).deep (Nat.le_of_ble_eq_true rfl)) ?_
  obtain ⟨h3, hf⟩ := grd hf
  refine go_cast rfl rfl rfl h3 ?_
  obtain ⟨h4, hf⟩ := grd hf
  refine go_get rfl rfl rfl h4 ?_
  refine go_n 1 (f := (18, [some (.ref 0), some (.int x1), some (.int x2)], [.int x2, .int (gi σ q1 5)], σ)) rfl ?_
  by_cases h5 : x2 < (gi σ q1 5)
  · rw [if_pos h5] at hf
    refine go_it (t := 51) (f := 21) (L1 := [some (.ref 0), some (.int x1), some (.int x2)]) (st1 := []) (σ1 := σ) rfl h5 ?_
    refine go_e (L1 := [none, none, none]) rfl rfl ?_
    refine go_n 1 (f := (52, [none, none, none], [.int 0], σ)) rfl ?_
    cases hf
    exact go_r rfl
  · rw [if_neg h5] at hf
    refine go_if (t := 51) (f := 21) (L1 := [some (.ref 0), some (.int x1), some (.int x2)]) (st1 := []) (σ1 := σ) rfl h5 ?_
    refine go_n 4 (f := (29, [some (.ref 0), some (.int x1), some (.int x2)], [.int x1, .ref 19], σ)) rfl ?_
    obtain ⟨h6, hf⟩ := grd hf
    refine go_iald rfl rfl rfl h6 ?_
    refine go_n 1 (f := (31, [some (.ref 0), some (.int x1), some (.int x2)], [.int (-1), .int (gi σ 19 x1.toNatClampNeg)], σ)) rfl ?_
    by_cases h7 : (gi σ 19 x1.toNatClampNeg) = (-1)
    · rw [if_pos h7] at hf
      refine go_it (t := 47) (f := 34) (L1 := [some (.ref 0), some (.int x1), some (.int x2)]) (st1 := []) (σ1 := σ) rfl h7 ?_
      refine go_e (L1 := [none, none, none]) rfl rfl ?_
      refine go_n 2 (f := (52, [none, none, none], [.int 1], σ)) rfl ?_
      cases hf
      exact go_r rfl
    · rw [if_neg h7] at hf
      refine go_if (t := 47) (f := 34) (L1 := [some (.ref 0), some (.int x1), some (.int x2)]) (st1 := []) (σ1 := σ) rfl h7 ?_
      refine go_n 4 (f := (42, [some (.ref 0), some (.int x1), some (.int x2)], [.int x1, .ref 19], σ)) rfl ?_
      obtain ⟨h8, hf⟩ := grd hf
      refine go_iald rfl rfl rfl h8 ?_
      refine go_n 1 (f := (44, [some (.ref 0), some (.int x1), some (.int x2)], [.int x2, .int (gi σ 19 x1.toNatClampNeg)], σ)) rfl ?_
      refine go_m (f := (52, [none, none, none], [.int ((if (gi σ 19 x1.toNatClampNeg) ≤ x2 then 0 else 1) : Int32)], σ)) ?_ (fun hJ11 => ?_)
      · generalize hz10 : ((if (gi σ 19 x1.toNatClampNeg) ≤ x2 then 0 else 1) : Int32) = z10 at hf ⊢
        have oz10 : am_ok 3 z10 = true := hz10 ▸ (okb rfl rfl)
        try dsimp only at hf
        cases hf
        exact go_ret rfl rfl (Or.inr (Or.inl ⟨rfl, oz10⟩))
      · by_cases h9 : (gi σ 19 x1.toNatClampNeg) ≤ x2
        · refine go_it (t := 51) (f := 47) (L1 := [some (.ref 0), some (.int x1), some (.int x2)]) (st1 := []) (σ1 := σ) rfl h9 ?_
          refine go_e (L1 := [none, none, none]) rfl rfl ?_
          refine go_n 1 (f := (52, [none, none, none], [.int 0], σ)) rfl ?_
          refine go_e (L1 := [none, none, none]) rfl rfl ?_
          simp only [if_pos h9] at hJ11
          first | exact hJ11 | (simp only [if_pos h9]; exact hJ11)
        · refine go_if (t := 51) (f := 47) (L1 := [some (.ref 0), some (.int x1), some (.int x2)]) (st1 := []) (σ1 := σ) rfl h9 ?_
          refine go_e (L1 := [none, none, none]) rfl rfl ?_
          refine go_n 2 (f := (52, [none, none, none], [.int 1], σ)) rfl ?_
          refine go_e (L1 := [none, none, none]) rfl rfl ?_
          simp only [if_neg h9] at hJ11
          first | exact hJ11 | (simp only [if_neg h9]; exact hJ11)
/-! OldWeather.spans(JJ)Z -/
def fX0_spans (x1 : Int64) (x3 : Int64) (σ : Sg) : Option (Int32 × Sg) :=
  (fX0_within x1).bind fun q1 => (fX0_within x3).bind fun q3 => ((fun (z6 : Int32) => some (z6, (wi (wi σ 0 14 q1) 0 15 q3))) ((if x3 < x1 then 0 else 1) : Int32))
set_option maxHeartbeats 1500000 in
theorem fX0_spans_ok (x1 : Int64) (x3 : Int64) (σ : Sg) (r : (Int32 × Sg)) (hf : fX0_spans x1 x3 σ = some r) : Cl true 2 5176 [.ref 0, .long x1, .long x3] σ (.inl (some (.int (r).1)), (r).2) := by
  refine ⟨iX0_spans, rfl, Nat.le_of_ble_eq_true rfl, Nat.le_of_ble_eq_true rfl, ?_⟩
  show Go true 2 iX0_spans (0, [some (.ref 0), some (.long x1), none, some (.long x3), none], [], σ) (.inl (some (.int (r).1)), (r).2)
  unfold fX0_spans at hf
  refine go_n 2 (f := (2, [some (.ref 0), some (.long x1), none, some (.long x3), none], [.long x1, .ref 0], σ)) rfl ?_
  obtain ⟨q1, h2, hf⟩ := bnd hf
  refine go_c (mid := 5177) (args := [.long x1]) (pc := 5) (L := [some (.ref 0), some (.long x1), none, some (.long x3), none]) (st := [.ref 0]) (σ := σ) rfl ((fX0_within_ok _ _ q1 h2).deep (Nat.le_of_ble_eq_true rfl)) ?_
  refine go_n 3 (f := (10, [some (.ref 0), some (.long x1), none, some (.long x3), none], [.long x3, .ref 0], (wi σ 0 14 q1))) rfl ?_
  obtain ⟨q3, h4, hf⟩ := bnd hf
  refine go_c (mid := 5177) (args := [.long x3]) (pc := 13) (L := [some (.ref 0), some (.long x1), none, some (.long x3), none]) (st := [.ref 0]) (σ := (wi σ 0 14 q1)) rfl ((fX0_within_ok _ _ q3 h4).deep (Nat.le_of_ble_eq_true rfl)) ?_
  refine go_n 4 (f := (19, [some (.ref 0), some (.long x1), none, some (.long x3), none], [.int (lg_cmp x1 x3)], (wi (wi σ 0 14 q1) 0 15 q3))) rfl ?_
  refine go_m (f := (27, [none, none, none, none, none], [.int ((if x3 < x1 then 0 else 1) : Int32)], (wi (wi σ 0 14 q1) 0 15 q3))) ?_ (fun hJ7 => ?_)
  · generalize hz6 : ((if x3 < x1 then 0 else 1) : Int32) = z6 at hf ⊢
    have oz6 : am_ok 3 z6 = true := hz6 ▸ (okb rfl rfl)
    try dsimp only at hf
    cases hf
    exact go_ret rfl rfl (Or.inr (Or.inl ⟨rfl, oz6⟩))
  · by_cases h5 : x3 < x1
    · refine go_it (t := 26) (f := 22) (L1 := [some (.ref 0), some (.long x1), none, some (.long x3), none]) (st1 := []) (σ1 := (wi (wi σ 0 14 q1) 0 15 q3)) rfl ((lgc_gt x1 x3).mpr h5) ?_
      refine go_n 1 (f := (27, [some (.ref 0), some (.long x1), none, some (.long x3), none], [.int 0], (wi (wi σ 0 14 q1) 0 15 q3))) rfl ?_
      refine go_e (L1 := [none, none, none, none, none]) rfl rfl ?_
      simp only [if_pos h5] at hJ7
      first | exact hJ7 | (simp only [if_pos h5]; exact hJ7)
    · refine go_if (t := 26) (f := 22) (L1 := [some (.ref 0), some (.long x1), none, some (.long x3), none]) (st1 := []) (σ1 := (wi (wi σ 0 14 q1) 0 15 q3)) rfl (fun q => h5 ((lgc_gt x1 x3).mp q)) ?_
      refine go_n 2 (f := (27, [some (.ref 0), some (.long x1), none, some (.long x3), none], [.int 1], (wi (wi σ 0 14 q1) 0 15 q3))) rfl ?_
      refine go_e (L1 := [none, none, none, none, none]) rfl rfl ?_
      simp only [if_neg h5] at hJ7
      first | exact hJ7 | (simp only [if_neg h5]; exact hJ7)
/-! OldWeather.wishOf(I)I -/
def fX0_wishOf_L2 (x1 : Int32) (σ : Sg)  (rec2 : Int32 → Option Int32) (x2 : Int32) : Option Int32 :=
  if (gi σ 0 39) ≤ x2 then some (-1) else if inb x2 5 then (fJ2_get 2 x1 σ).bind fun q3 => if [17, 18, 19, 20, 21].elem (kk σ q3) = true then if [17, 18, 19, 20, 21].elem (kk σ q3) = true then if (gi σ 50 x2.toNatClampNeg) ≠ (gi σ q3 1) then rec2 (x2 + 1) else some x2 else none else none else none
set_option maxHeartbeats 1500000 in
theorem fX0_wishOf_L2_ok (x1 : Int32) (σ : Sg)   : ∀ (n : Nat) (x2 : Int32) (r : Int32), lp (fX0_wishOf_L2 x1 σ ) n x2 = some r → Go true 3 iX0_wishOf (2, [some (.ref 0), some (.int x1), some (.int x2)], [], σ) (.inl (some (.int r)), σ) := by
  intro n
  induction n with
  | zero => intro x2 r hf; cases hf
  | succ n ih =>
    intro x2 r hf
    have hf : fX0_wishOf_L2 x1 σ  (lp (fX0_wishOf_L2 x1 σ ) n) x2 = some r := hf
    have hrec2 := ih
    generalize lp (fX0_wishOf_L2 x1 σ ) n = rec2 at hf hrec2
    unfold fX0_wishOf_L2 at hf
    refine go_n 3 (f := (7, [some (.ref 0), some (.int x1), some (.int x2)], [.int (gi σ 0 39), .int x2], σ)) rfl ?_
    by_cases h1 : (gi σ 0 39) ≤ x2
    · rw [if_pos h1] at hf
      refine go_it (t := 44) (f := 10) (L1 := [some (.ref 0), some (.int x1), some (.int x2)]) (st1 := []) (σ1 := σ) rfl h1 ?_
      refine go_n 1 (f := (45, [some (.ref 0), some (.int x1), some (.int x2)], [.int (-1)], σ)) rfl ?_
      cases hf
      exact go_r rfl
    · rw [if_neg h1] at hf
      refine go_if (t := 44) (f := 10) (L1 := [some (.ref 0), some (.int x1), some (.int x2)]) (st1 := []) (σ1 := σ) rfl h1 ?_
      refine go_n 3 (f := (15, [some (.ref 0), some (.int x1), some (.int x2)], [.int x2, .ref 50], σ)) rfl ?_
      obtain ⟨h2, hf⟩ := grd hf
      refine go_iald rfl rfl rfl h2 ?_
      refine go_n 4 (f := (24, [some (.ref 0), some (.int x1), some (.int x2)], [.int x1, .ref 2, .int (gi σ 50 x2.toNatClampNeg)], σ)) rfl ?_
      obtain ⟨q3, h4, hf⟩ := bnd hf
      refine go_c (mid := 2825) (args := [.ref 2, .int x1]) (pc := 27) (L := [some (.ref 0), some (.int x1), some (.int x2)]) (st := [.int (gi σ 50 x2.toNatClampNeg)]) (σ := σ) rfl ((fJ2_get_ok _ _ _ q3 h4).deep (Nat.le_of_ble_eq_true rfl)) ?_
      obtain ⟨h5, hf⟩ := grd hf
      refine go_cast rfl rfl rfl h5 ?_
      obtain ⟨h6, hf⟩ := grd hf
      refine go_get rfl rfl rfl h6 ?_
      by_cases h7 : (gi σ 50 x2.toNatClampNeg) ≠ (gi σ q3 1)
      · rw [if_pos h7] at hf
        refine go_it (t := 38) (f := 36) (L1 := [some (.ref 0), some (.int x1), some (.int x2)]) (st1 := []) (σ1 := σ) rfl h7 ?_
        refine go_n 2 (f := (2, [some (.ref 0), some (.int x1), some (.int (x2 + 1))], [], σ)) rfl ?_
        exact hrec2 _ _ hf
      · rw [if_neg h7] at hf
        refine go_if (t := 38) (f := 36) (L1 := [some (.ref 0), some (.int x1), some (.int x2)]) (st1 := []) (σ1 := σ) rfl h7 ?_
        refine go_n 1 (f := (37, [some (.ref 0), some (.int x1), some (.int x2)], [.int x2], σ)) rfl ?_
        cases hf
        exact go_r rfl
def fX0_wishOf (x1 : Int32) (σ : Sg) : Option Int32 :=
  lp (fX0_wishOf_L2 x1 σ ) N0 0
set_option maxHeartbeats 1500000 in
theorem fX0_wishOf_ok (x1 : Int32) (σ : Sg) (r : Int32) (hf : fX0_wishOf x1 σ = some r) : Cl true 3 5192 [.ref 0, .int x1] σ (.inl (some (.int r)), σ) := by
  refine ⟨iX0_wishOf, rfl, Nat.le_of_ble_eq_true rfl, Nat.le_of_ble_eq_true rfl, ?_⟩
  show Go true 3 iX0_wishOf (0, [some (.ref 0), some (.int x1), none], [], σ) (.inl (some (.int r)), σ)
  unfold fX0_wishOf at hf
  refine go_n 2 (f := (2, [some (.ref 0), some (.int x1), some (.int 0)], [], σ)) rfl ?_
  exact fX0_wishOf_L2_ok _ _   N0 _ _ hf
/-! OldWeather.areLike(II)Z -/
def fX0_areLike (x1 : Int32) (x2 : Int32) (σ : Sg) : Option Int32 :=
  (fJ2_get 2 x1 σ).bind fun q1 => if [17, 18, 19, 20, 21].elem (kk σ q1) = true then if [17, 18, 19, 20, 21].elem (kk σ q1) = true then if inb (gi σ q1 1) 16 then (fJ2_get 2 x2 σ).bind fun q6 => if [17, 18, 19, 20, 21].elem (kk σ q6) = true then if [17, 18, 19, 20, 21].elem (kk σ q6) = true then if inb (gi σ q6 1) 16 then if inb ((12 * (gi σ 15 (gi σ q1 1).toNatClampNeg)) + (gi σ 15 (gi σ q6 1).toNatClampNeg)) 144 then ((fun (z13 : Int32) => some z13) ((if (gi σ 13 ((12 * (gi σ 15 (gi σ q1 1).toNatClampNeg)) + (gi σ 15 (gi σ q6 1).toNatClampNeg)).toNatClampNeg) ≤ 50 then 0 else 1) : Int32)) else none else none else none else none else none else none else none
set_option maxHeartbeats 1500000 in
theorem fX0_areLike_ok (x1 : Int32) (x2 : Int32) (σ : Sg) (r : Int32) (hf : fX0_areLike x1 x2 σ = some r) : Cl true 3 5193 [.ref 0, .int x1, .int x2] σ (.inl (some (.int r)), σ) := by
  refine ⟨iX0_areLike, rfl, Nat.le_of_ble_eq_true rfl, Nat.le_of_ble_eq_true rfl, ?_⟩
  show Go true 3 iX0_areLike (0, [some (.ref 0), some (.int x1), some (.int x2)], [], σ) (.inl (some (.int r)), σ)
  unfold fX0_areLike at hf
  refine go_n 10 (f := (23, [some (.ref 0), some (.int x1), some (.int x2)], [.ref 2, .ref 15, .int 12, .ref 13], σ)) rfl ?_
  refine go_n 1 (f := (24, [some (.ref 0), some (.int x1), some (.int x2)], [.int x1, .ref 2, .ref 15, .int 12, .ref 13], σ)) rfl ?_
  obtain ⟨q1, h2, hf⟩ := bnd hf
  refine go_c (mid := 2825) (args := [.ref 2, .int x1]) (pc := 27) (L := [some (.ref 0), some (.int x1), some (.int x2)]) (st := [.ref 15, .int 12, .ref 13]) (σ := σ) rfl ((fJ2_get_ok _ _ _ q1 h2).deep (Nat.le_of_ble_eq_true rfl)) ?_
  obtain ⟨h3, hf⟩ := grd hf
  refine go_cast rfl rfl rfl h3 ?_
  obtain ⟨h4, hf⟩ := grd hf
  refine go_get rfl rfl rfl h4 ?_
  obtain ⟨h5, hf⟩ := grd hf
  refine go_iald rfl rfl rfl h5 ?_
  refine go_n 8 (f := (50, [some (.ref 0), some (.int x1), some (.int x2)], [.int x2, .ref 2, .ref 15, .int (12 * (gi σ 15 (gi σ q1 1).toNatClampNeg)), .ref 13], σ)) rfl ?_
  obtain ⟨q6, h7, hf⟩ := bnd hf
  refine go_c (mid := 2825) (args := [.ref 2, .int x2]) (pc := 53) (L := [some (.ref 0), some (.int x1), some (.int x2)]) (st := [.ref 15, .int (12 * (gi σ 15 (gi σ q1 1).toNatClampNeg)), .ref 13]) (σ := σ) rfl ((fJ2_get_ok _ _ _ q6 h7).deep (Nat.le_of_ble_eq_true rfl)) ?_
  obtain ⟨h8, hf⟩ := grd hf
  refine go_cast rfl rfl rfl h8 ?_
  obtain ⟨h9, hf⟩ := grd hf
  refine go_get rfl rfl rfl h9 ?_
  obtain ⟨h10, hf⟩ := grd hf
  refine go_iald rfl rfl rfl h10 ?_
  refine go_n 1 (f := (61, [some (.ref 0), some (.int x1), some (.int x2)], [.int ((12 * (gi σ 15 (gi σ q1 1).toNatClampNeg)) + (gi σ 15 (gi σ q6 1).toNatClampNeg)), .ref 13], σ)) rfl ?_
  obtain ⟨h11, hf⟩ := grd hf
  refine go_iald rfl rfl rfl h11 ?_
  refine go_n 1 (f := (64, [some (.ref 0), some (.int x1), some (.int x2)], [.int 50, .int (gi σ 13 ((12 * (gi σ 15 (gi σ q1 1).toNatClampNeg)) + (gi σ 15 (gi σ q6 1).toNatClampNeg)).toNatClampNeg)], σ)) rfl ?_
  refine go_m (f := (72, [none, none, none], [.int ((if (gi σ 13 ((12 * (gi σ 15 (gi σ q1 1).toNatClampNeg)) + (gi σ 15 (gi σ q6 1).toNatClampNeg)).toNatClampNeg) ≤ 50 then 0 else 1) : Int32)], σ)) ?_ (fun hJ14 => ?_)
  · generalize hz13 : ((if (gi σ 13 ((12 * (gi σ 15 (gi σ q1 1).toNatClampNeg)) + (gi σ 15 (gi σ q6 1).toNatClampNeg)).toNatClampNeg) ≤ 50 then 0 else 1) : Int32) = z13 at hf ⊢
    have oz13 : am_ok 3 z13 = true := hz13 ▸ (okb rfl rfl)
    try dsimp only at hf
    cases hf
    exact go_ret rfl rfl (Or.inr (Or.inl ⟨rfl, oz13⟩))
  · by_cases h12 : (gi σ 13 ((12 * (gi σ 15 (gi σ q1 1).toNatClampNeg)) + (gi σ 15 (gi σ q6 1).toNatClampNeg)).toNatClampNeg) ≤ 50
    · refine go_it (t := 71) (f := 67) (L1 := [some (.ref 0), some (.int x1), some (.int x2)]) (st1 := []) (σ1 := σ) rfl h12 ?_
      refine go_n 1 (f := (72, [some (.ref 0), some (.int x1), some (.int x2)], [.int 0], σ)) rfl ?_
      refine go_e (L1 := [none, none, none]) rfl rfl ?_
      simp only [if_pos h12] at hJ14
      first | exact hJ14 | (simp only [if_pos h12]; exact hJ14)
    · refine go_if (t := 71) (f := 67) (L1 := [some (.ref 0), some (.int x1), some (.int x2)]) (st1 := []) (σ1 := σ) rfl h12 ?_
      refine go_n 2 (f := (72, [some (.ref 0), some (.int x1), some (.int x2)], [.int 1], σ)) rfl ?_
      refine go_e (L1 := [none, none, none]) rfl rfl ?_
      simp only [if_neg h12] at hJ14
      first | exact hJ14 | (simp only [if_neg h12]; exact hJ14)
/-! OldWeather.widthsOf(IIII)I -/
def fX0_widthsOf_J108 (x1 : Int32) (x2 : Int32) (x3 : Int32) (x4 : Int32) (x5 : Int32) (x6 : Int32) (x7 : Int32) (x8 : Int32) (rec6 : (Int32 × Int32) → Option Int32) (rec25 : (Int32 × Int32) → Option Int32) (σ : Sg) : Option Int32 :=
  rec25 (x7, (x8 + 1))
set_option maxHeartbeats 1500000 in
theorem fX0_widthsOf_J108_ok (x1 : Int32) (x2 : Int32) (x3 : Int32) (x4 : Int32) (x5 : Int32) (x6 : Int32) (x7 : Int32) (x8 : Int32) (rec6 : (Int32 × Int32) → Option Int32) (rec25 : (Int32 × Int32) → Option Int32) (σ : Sg) (hrec6 : ∀ (y5 : Int32) (y6 : Int32) (r : Int32), rec6 (y5, y6) = some r → Go true 3 iX0_widthsOf (6, [some (.ref 0), some (.int x1), some (.int x2), some (.int x3), some (.int x4), some (.int y5), some (.int y6), none, none, none], [], σ) (.inl (some (.int r)), σ)) (hrec25 : ∀ (y7 : Int32) (y8 : Int32) (r : Int32), rec25 (y7, y8) = some r → Go true 3 iX0_widthsOf (25, [some (.ref 0), some (.int x1), some (.int x2), some (.int x3), some (.int x4), some (.int x5), some (.int x6), some (.int y7), some (.int y8), none], [], σ) (.inl (some (.int r)), σ)) (r : Int32) (hf : fX0_widthsOf_J108 x1 x2 x3 x4 x5 x6 x7 x8 rec6 rec25 σ = some r) : Go true 3 iX0_widthsOf (108, [some (.ref 0), some (.int x1), some (.int x2), some (.int x3), some (.int x4), some (.int x5), some (.int x6), some (.int x7), some (.int x8), none], [], σ) (.inl (some (.int r)), σ) := by
  unfold fX0_widthsOf_J108 at hf
  refine go_n 2 (f := (25, [some (.ref 0), some (.int x1), some (.int x2), some (.int x3), some (.int x4), some (.int x5), some (.int x6), some (.int x7), some (.int (x8 + 1)), none], [], σ)) rfl ?_
  exact hrec25 _ _ _ hf
def fX0_widthsOf_L25 (x1 : Int32) (x2 : Int32) (x3 : Int32) (x4 : Int32) (x5 : Int32) (x6 : Int32) (σ : Sg) (rec6 : (Int32 × Int32) → Option Int32) (rec25 : (Int32 × Int32) → Option Int32) (s : Int32 × Int32) : Option Int32 :=
  match s with
  | (x7, x8) => (fJ2_size 8 σ).bind fun q3 => if q3 ≤ x8 then rec6 ((x5 + x7), (x6 + 1)) else (fJ2_get 8 x8 σ).bind fun q6 => if [35].elem (kk σ q6) = true then if ((x1 >>> (x8 &&& 31)) &&& 1) ≠ 1 then fX0_widthsOf_J108 x1 x2 x3 x4 x5 x6 x7 x8 rec6 rec25 σ else if [35].elem (kk σ q6) = true then if (gi σ q6 0) ≠ x2 then fX0_widthsOf_J108 x1 x2 x3 x4 x5 x6 x7 x8 rec6 rec25 σ else if [35].elem (kk σ q6) = true then if [35].elem (kk σ q6) = true then (fX0_in (x3 + x6) (gi σ q6 1) (gi σ q6 2)).bind fun q14 => if q14 = 0 then fX0_widthsOf_J108 x1 x2 x3 x4 x5 x6 x7 x8 rec6 rec25 σ else if [35].elem (kk σ q6) = true then (fJ5_min x7 (gi σ q6 3)).bind fun q18 => fX0_widthsOf_J108 x1 x2 x3 x4 x5 x6 q18 x8 rec6 rec25 σ else none else none else none else none else none
set_option maxHeartbeats 1500000 in
theorem fX0_widthsOf_L25_ok (x1 : Int32) (x2 : Int32) (x3 : Int32) (x4 : Int32) (x5 : Int32) (x6 : Int32) (σ : Sg) (rec6 : (Int32 × Int32) → Option Int32) (hrec6 : ∀ (y5 : Int32) (y6 : Int32) (r : Int32), rec6 (y5, y6) = some r → Go true 3 iX0_widthsOf (6, [some (.ref 0), some (.int x1), some (.int x2), some (.int x3), some (.int x4), some (.int y5), some (.int y6), none, none, none], [], σ) (.inl (some (.int r)), σ)) : ∀ (n : Nat) (x7 : Int32) (x8 : Int32) (r : Int32), lp (fX0_widthsOf_L25 x1 x2 x3 x4 x5 x6 σ rec6) n (x7, x8) = some r → Go true 3 iX0_widthsOf (25, [some (.ref 0), some (.int x1), some (.int x2), some (.int x3), some (.int x4), some (.int x5), some (.int x6), some (.int x7), some (.int x8), none], [], σ) (.inl (some (.int r)), σ) := by
  intro n
  induction n with
  | zero => intro x7 x8 r hf; cases hf
  | succ n ih =>
    intro x7 x8 r hf
    have hf : fX0_widthsOf_L25 x1 x2 x3 x4 x5 x6 σ rec6 (lp (fX0_widthsOf_L25 x1 x2 x3 x4 x5 x6 σ rec6) n) (x7, x8) = some r := hf
    have hrec25 := ih
    generalize lp (fX0_widthsOf_L25 x1 x2 x3 x4 x5 x6 σ rec6) n = rec25 at hf hrec25
    unfold fX0_widthsOf_L25 at hf
    dsimp only at hf
    refine go_n 4 (f := (34, [some (.ref 0), some (.int x1), some (.int x2), some (.int x3), some (.int x4), some (.int x5), some (.int x6), some (.int x7), some (.int x8), none], [.ref 8, .int x8], σ)) rfl ?_
    obtain ⟨q3, h4, hf⟩ := bnd hf
    refine go_c (mid := 2821) (args := [.ref 8]) (pc := 37) (L := [some (.ref 0), some (.int x1), some (.int x2), some (.int x3), some (.int x4), some (.int x5), some (.int x6), some (.int x7), some (.int x8), none]) (st := [.int x8]) (σ := σ) rfl ((fJ2_size_ok _ _ q3 h4).deep (Nat.le_of_ble_eq_true rfl)) ?_
    by_cases h5 : q3 ≤ x8
    · rw [if_pos h5] at hf
      refine go_it (t := 114) (f := 40) (L1 := [some (.ref 0), some (.int x1), some (.int x2), some (.int x3), some (.int x4), some (.int x5), some (.int x6), some (.int x7), some (.int x8), none]) (st1 := []) (σ1 := σ) rfl h5 ?_
      refine go_n 5 (f := (124, [some (.ref 0), some (.int x1), some (.int x2), some (.int x3), some (.int x4), some (.int (x5 + x7)), some (.int (x6 + 1)), some (.int x7), some (.int x8), none], [], σ)) rfl ?_
      refine go_n 1 (f := (6, [some (.ref 0), some (.int x1), some (.int x2), some (.int x3), some (.int x4), some (.int (x5 + x7)), some (.int (x6 + 1)), some (.int x7), some (.int x8), none], [], σ)) rfl ?_
      refine go_e (L1 := [some (.ref 0), some (.int x1), some (.int x2), some (.int x3), some (.int x4), some (.int (x5 + x7)), some (.int (x6 + 1)), none, none, none]) rfl rfl ?_
      exact hrec6 _ _ _ hf
    · rw [if_neg h5] at hf
      refine go_if (t := 114) (f := 40) (L1 := [some (.ref 0), some (.int x1), some (.int x2), some (.int x3), some (.int x4), some (.int x5), some (.int x6), some (.int x7), some (.int x8), none]) (st1 := []) (σ1 := σ) rfl h5 ?_
      refine go_n 4 (f := (49, [some (.ref 0), some (.int x1), some (.int x2), some (.int x3), some (.int x4), some (.int x5), some (.int x6), some (.int x7), some (.int x8), none], [.int x8, .ref 8], σ)) rfl ?_
      obtain ⟨q6, h7, hf⟩ := bnd hf
      refine go_c (mid := 2825) (args := [.ref 8, .int x8]) (pc := 52) (L := [some (.ref 0), some (.int x1), some (.int x2), some (.int x3), some (.int x4), some (.int x5), some (.int x6), some (.int x7), some (.int x8), none]) (st := []) (σ := σ) rfl ((fJ2_get_ok _ _ _ q6 h7).deep (Nat.le_of_ble_eq_true rfl)) ?_
      obtain ⟨h8, hf⟩ := grd hf
      refine go_cast rfl rfl rfl h8 ?_
      refine go_n 7 (f := (64, [some (.ref 0), some (.int x1), some (.int x2), some (.int x3), some (.int x4), some (.int x5), some (.int x6), some (.int x7), some (.int x8), some (.ref q6)], [.int 1, .int ((x1 >>> (x8 &&& 31)) &&& 1)], σ)) rfl ?_
      by_cases h9 : ((x1 >>> (x8 &&& 31)) &&& 1) ≠ 1
      · rw [if_pos h9] at hf
        refine go_it (t := 108) (f := 67) (L1 := [some (.ref 0), some (.int x1), some (.int x2), some (.int x3), some (.int x4), some (.int x5), some (.int x6), some (.int x7), some (.int x8), some (.ref q6)]) (st1 := []) (σ1 := σ) rfl h9 ?_
        refine go_e (L1 := [some (.ref 0), some (.int x1), some (.int x2), some (.int x3), some (.int x4), some (.int x5), some (.int x6), some (.int x7), some (.int x8), none]) rfl rfl ?_
        exact fX0_widthsOf_J108_ok _ _ _ _ _ _ _ _ _ _ _ hrec6 hrec25 _ hf
      · rw [if_neg h9] at hf
        refine go_if (t := 108) (f := 67) (L1 := [some (.ref 0), some (.int x1), some (.int x2), some (.int x3), some (.int x4), some (.int x5), some (.int x6), some (.int x7), some (.int x8), some (.ref q6)]) (st1 := []) (σ1 := σ) rfl h9 ?_
        refine go_n 1 (f := (69, [some (.ref 0), some (.int x1), some (.int x2), some (.int x3), some (.int x4), some (.int x5), some (.int x6), some (.int x7), some (.int x8), some (.ref q6)], [.ref q6], σ)) rfl ?_
        obtain ⟨h10, hf⟩ := grd hf
        refine go_get rfl rfl rfl h10 ?_
        refine go_n 1 (f := (73, [some (.ref 0), some (.int x1), some (.int x2), some (.int x3), some (.int x4), some (.int x5), some (.int x6), some (.int x7), some (.int x8), some (.ref q6)], [.int x2, .int (gi σ q6 0)], σ)) rfl ?_
        by_cases h11 : (gi σ q6 0) ≠ x2
        · rw [if_pos h11] at hf
          refine go_it (t := 108) (f := 76) (L1 := [some (.ref 0), some (.int x1), some (.int x2), some (.int x3), some (.int x4), some (.int x5), some (.int x6), some (.int x7), some (.int x8), some (.ref q6)]) (st1 := []) (σ1 := σ) rfl h11 ?_
          refine go_e (L1 := [some (.ref 0), some (.int x1), some (.int x2), some (.int x3), some (.int x4), some (.int x5), some (.int x6), some (.int x7), some (.int x8), none]) rfl rfl ?_
          exact fX0_widthsOf_J108_ok _ _ _ _ _ _ _ _ _ _ _ hrec6 hrec25 _ hf
        · rw [if_neg h11] at hf
          refine go_if (t := 108) (f := 76) (L1 := [some (.ref 0), some (.int x1), some (.int x2), some (.int x3), some (.int x4), some (.int x5), some (.int x6), some (.int x7), some (.int x8), some (.ref q6)]) (st1 := []) (σ1 := σ) rfl h11 ?_
          refine go_n 4 (f := (82, [some (.ref 0), some (.int x1), some (.int x2), some (.int x3), some (.int x4), some (.int x5), some (.int x6), some (.int x7), some (.int x8), some (.ref q6)], [.ref q6, .int (x3 + x6)], σ)) rfl ?_
          obtain ⟨h12, hf⟩ := grd hf
          refine go_get rfl rfl rfl h12 ?_
          refine go_n 1 (f := (87, [some (.ref 0), some (.int x1), some (.int x2), some (.int x3), some (.int x4), some (.int x5), some (.int x6), some (.int x7), some (.int x8), some (.ref q6)], [.ref q6, .int (gi σ q6 1), .int (x3 + x6)], σ)) rfl ?_
          obtain ⟨h13, hf⟩ := grd hf
          refine go_get rfl rfl rfl h13 ?_
          obtain ⟨q14, h15, hf⟩ := bnd hf
          refine go_c (mid := 5122) (args := [.int (x3 + x6), .int (gi σ q6 1), .int (gi σ q6 2)]) (pc := 93) (L := [some (.ref 0), some (.int x1), some (.int x2), some (.int x3), some (.int x4), some (.int x5), some (.int x6), some (.int x7), some (.int x8), some (.ref q6)]) (st := []) (σ := σ) rfl ((fX0_in_ok _ _ _ _ q14 h15).deep (Nat.le_of_ble_eq_true rfl)) ?_
          by_cases h16 : q14 = 0
          · rw [if_pos h16] at hf
            refine go_it (t := 108) (f := 96) (L1 := [some (.ref 0), some (.int x1), some (.int x2), some (.int x3), some (.int x4), some (.int x5), some (.int x6), some (.int x7), some (.int x8), some (.ref q6)]) (st1 := []) (σ1 := σ) rfl h16 ?_
            refine go_e (L1 := [some (.ref 0), some (.int x1), some (.int x2), some (.int x3), some (.int x4), some (.int x5), some (.int x6), some (.int x7), some (.int x8), none]) rfl rfl ?_
            exact fX0_widthsOf_J108_ok _ _ _ _ _ _ _ _ _ _ _ hrec6 hrec25 _ hf
          · rw [if_neg h16] at hf
            refine go_if (t := 108) (f := 96) (L1 := [some (.ref 0), some (.int x1), some (.int x2), some (.int x3), some (.int x4), some (.int x5), some (.int x6), some (.int x7), some (.int x8), some (.ref q6)]) (st1 := []) (σ1 := σ) rfl h16 ?_
            refine go_n 2 (f := (100, [some (.ref 0), some (.int x1), some (.int x2), some (.int x3), some (.int x4), some (.int x5), some (.int x6), some (.int x7), some (.int x8), some (.ref q6)], [.ref q6, .int x7], σ)) rfl ?_
            obtain ⟨h17, hf⟩ := grd hf
            refine go_get rfl rfl rfl h17 ?_
            obtain ⟨q18, h19, hf⟩ := bnd hf
            refine go_c (mid := 3585) (args := [.int x7, .int (gi σ q6 3)]) (pc := 106) (L := [some (.ref 0), some (.int x1), some (.int x2), some (.int x3), some (.int x4), some (.int x5), some (.int x6), some (.int x7), some (.int x8), some (.ref q6)]) (st := []) (σ := σ) rfl ((fJ5_min_ok _ _ _ q18 h19).deep (Nat.le_of_ble_eq_true rfl)) ?_
            refine go_n 1 (f := (108, [some (.ref 0), some (.int x1), some (.int x2), some (.int x3), some (.int x4), some (.int x5), some (.int x6), some (.int q18), some (.int x8), some (.ref q6)], [], σ)) rfl ?_
            refine go_e (L1 := [some (.ref 0), some (.int x1), some (.int x2), some (.int x3), some (.int x4), some (.int x5), some (.int x6), some (.int q18), some (.int x8), none]) rfl rfl ?_
            exact fX0_widthsOf_J108_ok _ _ _ _ _ _ _ _ _ _ _ hrec6 hrec25 _ hf
def fX0_widthsOf_L6 (x1 : Int32) (x2 : Int32) (x3 : Int32) (x4 : Int32) (σ : Sg)  (rec6 : (Int32 × Int32) → Option Int32) (s : Int32 × Int32) : Option Int32 :=
  match s with
  | (x5, x6) => if x4 ≤ x6 then some x5 else if inb x6 60 then lp (fX0_widthsOf_L25 x1 x2 x3 x4 x5 x6 σ rec6) N0 ((gi σ 59 x6.toNatClampNeg), 0) else none
set_option maxHeartbeats 1500000 in
theorem fX0_widthsOf_L6_ok (x1 : Int32) (x2 : Int32) (x3 : Int32) (x4 : Int32) (σ : Sg)   : ∀ (n : Nat) (x5 : Int32) (x6 : Int32) (r : Int32), lp (fX0_widthsOf_L6 x1 x2 x3 x4 σ ) n (x5, x6) = some r → Go true 3 iX0_widthsOf (6, [some (.ref 0), some (.int x1), some (.int x2), some (.int x3), some (.int x4), some (.int x5), some (.int x6), none, none, none], [], σ) (.inl (some (.int r)), σ) := by
  intro n
  induction n with
  | zero => intro x5 x6 r hf; cases hf
  | succ n ih =>
    intro x5 x6 r hf
    have hf : fX0_widthsOf_L6 x1 x2 x3 x4 σ  (lp (fX0_widthsOf_L6 x1 x2 x3 x4 σ ) n) (x5, x6) = some r := hf
    have hrec6 := ih
    generalize lp (fX0_widthsOf_L6 x1 x2 x3 x4 σ ) n = rec6 at hf hrec6
    unfold fX0_widthsOf_L6 at hf
    dsimp only at hf
    refine go_n 2 (f := (10, [some (.ref 0), some (.int x1), some (.int x2), some (.int x3), some (.int x4), some (.int x5), some (.int x6), none, none, none], [.int x4, .int x6], σ)) rfl ?_
    by_cases h1 : x4 ≤ x6
    · rw [if_pos h1] at hf
      refine go_it (t := 127) (f := 13) (L1 := [some (.ref 0), some (.int x1), some (.int x2), some (.int x3), some (.int x4), some (.int x5), some (.int x6), none, none, none]) (st1 := []) (σ1 := σ) rfl h1 ?_
      refine go_n 1 (f := (129, [some (.ref 0), some (.int x1), some (.int x2), some (.int x3), some (.int x4), some (.int x5), some (.int x6), none, none, none], [.int x5], σ)) rfl ?_
      cases hf
      exact go_r rfl
    · rw [if_neg h1] at hf
      refine go_if (t := 127) (f := 13) (L1 := [some (.ref 0), some (.int x1), some (.int x2), some (.int x3), some (.int x4), some (.int x5), some (.int x6), none, none, none]) (st1 := []) (σ1 := σ) rfl h1 ?_
      refine go_n 3 (f := (19, [some (.ref 0), some (.int x1), some (.int x2), some (.int x3), some (.int x4), some (.int x5), some (.int x6), none, none, none], [.int x6, .ref 59], σ)) rfl ?_
      obtain ⟨h2, hf⟩ := grd hf
      refine go_iald rfl rfl rfl h2 ?_
      refine go_n 3 (f := (25, [some (.ref 0), some (.int x1), some (.int x2), some (.int x3), some (.int x4), some (.int x5), some (.int x6), some (.int (gi σ 59 x6.toNatClampNeg)), some (.int 0), none], [], σ)) rfl ?_
      exact fX0_widthsOf_L25_ok _ _ _ _ _ _ _ _ hrec6 N0 _ _ _ hf
def fX0_widthsOf (x1 : Int32) (x2 : Int32) (x3 : Int32) (x4 : Int32) (σ : Sg) : Option Int32 :=
  lp (fX0_widthsOf_L6 x1 x2 x3 x4 σ ) N0 (0, 0)
set_option maxHeartbeats 1500000 in
theorem fX0_widthsOf_ok (x1 : Int32) (x2 : Int32) (x3 : Int32) (x4 : Int32) (σ : Sg) (r : Int32) (hf : fX0_widthsOf x1 x2 x3 x4 σ = some r) : Cl true 3 5208 [.ref 0, .int x1, .int x2, .int x3, .int x4] σ (.inl (some (.int r)), σ) := by
  refine ⟨iX0_widthsOf, rfl, Nat.le_of_ble_eq_true rfl, Nat.le_of_ble_eq_true rfl, ?_⟩
  show Go true 3 iX0_widthsOf (0, [some (.ref 0), some (.int x1), some (.int x2), some (.int x3), some (.int x4), none, none, none, none, none], [], σ) (.inl (some (.int r)), σ)
  unfold fX0_widthsOf at hf
  refine go_n 4 (f := (6, [some (.ref 0), some (.int x1), some (.int x2), some (.int x3), some (.int x4), some (.int 0), some (.int 0), none, none, none], [], σ)) rfl ?_
  exact fX0_widthsOf_L6_ok _ _ _ _ _   N0 _ _ _ hf
/-! OldWeather.hoursOf(I)I -/
def fX0_hoursOf_J49 (x1 : Int32) (x3 : Int32) (s0 : Int32) (s1 : Int32) (rec4 : (Int32 × Int32) → Option Int32) (σ : Sg) : Option Int32 :=
  rec4 ((s1 + s0), (x3 + 1))
set_option maxHeartbeats 1500000 in
theorem fX0_hoursOf_J49_ok (x1 : Int32) (x3 : Int32) (s0 : Int32) (s1 : Int32) (rec4 : (Int32 × Int32) → Option Int32) (σ : Sg) (hrec4 : ∀ (y2 : Int32) (y3 : Int32) (r : Int32), rec4 (y2, y3) = some r → Go true 3 iX0_hoursOf (4, [some (.ref 0), some (.int x1), some (.int y2), some (.int y3)], [], σ) (.inl (some (.int r)), σ)) (r : Int32) (hf : fX0_hoursOf_J49 x1 x3 s0 s1 rec4 σ = some r) : Go true 3 iX0_hoursOf (49, [some (.ref 0), some (.int x1), none, some (.int x3)], [.int s0, .int s1], σ) (.inl (some (.int r)), σ) := by
  unfold fX0_hoursOf_J49 at hf
  refine go_n 3 (f := (54, [some (.ref 0), some (.int x1), some (.int (s1 + s0)), some (.int (x3 + 1))], [], σ)) rfl ?_
  refine go_n 1 (f := (4, [some (.ref 0), some (.int x1), some (.int (s1 + s0)), some (.int (x3 + 1))], [], σ)) rfl ?_
  exact hrec4 _ _ _ hf
def fX0_hoursOf_L4 (x1 : Int32) (σ : Sg)  (rec4 : (Int32 × Int32) → Option Int32) (s : Int32 × Int32) : Option Int32 :=
  match s with
  | (x2, x3) => (fJ2_size 8 σ).bind fun q1 => if q1 ≤ x3 then some x2 else if ((x1 >>> (x3 &&& 31)) &&& 1) ≠ 1 then fX0_hoursOf_J49 x1 x3 0 x2 rec4 σ else (fJ2_get 8 x3 σ).bind fun q5 => if [35].elem (kk σ q5) = true then if [35].elem (kk σ q5) = true then fX0_hoursOf_J49 x1 x3 (gi σ q5 4) x2 rec4 σ else none else none
set_option maxHeartbeats 1500000 in
theorem fX0_hoursOf_L4_ok (x1 : Int32) (σ : Sg)   : ∀ (n : Nat) (x2 : Int32) (x3 : Int32) (r : Int32), lp (fX0_hoursOf_L4 x1 σ ) n (x2, x3) = some r → Go true 3 iX0_hoursOf (4, [some (.ref 0), some (.int x1), some (.int x2), some (.int x3)], [], σ) (.inl (some (.int r)), σ) := by
  intro n
  induction n with
  | zero => intro x2 x3 r hf; cases hf
  | succ n ih =>
    intro x2 x3 r hf
    have hf : fX0_hoursOf_L4 x1 σ  (lp (fX0_hoursOf_L4 x1 σ ) n) (x2, x3) = some r := hf
    have hrec4 := ih
    generalize lp (fX0_hoursOf_L4 x1 σ ) n = rec4 at hf hrec4
    unfold fX0_hoursOf_L4 at hf
    dsimp only at hf
    refine go_n 4 (f := (12, [some (.ref 0), some (.int x1), some (.int x2), some (.int x3)], [.ref 8, .int x3], σ)) rfl ?_
    obtain ⟨q1, h2, hf⟩ := bnd hf
    refine go_c (mid := 2821) (args := [.ref 8]) (pc := 15) (L := [some (.ref 0), some (.int x1), some (.int x2), some (.int x3)]) (st := [.int x3]) (σ := σ) rfl ((fJ2_size_ok _ _ q1 h2).deep (Nat.le_of_ble_eq_true rfl)) ?_
    by_cases h3 : q1 ≤ x3
    · rw [if_pos h3] at hf
      refine go_it (t := 57) (f := 18) (L1 := [some (.ref 0), some (.int x1), some (.int x2), some (.int x3)]) (st1 := []) (σ1 := σ) rfl h3 ?_
      refine go_n 1 (f := (58, [some (.ref 0), some (.int x1), some (.int x2), some (.int x3)], [.int x2], σ)) rfl ?_
      cases hf
      exact go_r rfl
    · rw [if_neg h3] at hf
      refine go_if (t := 57) (f := 18) (L1 := [some (.ref 0), some (.int x1), some (.int x2), some (.int x3)]) (st1 := []) (σ1 := σ) rfl h3 ?_
      refine go_n 7 (f := (25, [some (.ref 0), some (.int x1), some (.int x2), some (.int x3)], [.int 1, .int ((x1 >>> (x3 &&& 31)) &&& 1), .int x2], σ)) rfl ?_
      by_cases h4 : ((x1 >>> (x3 &&& 31)) &&& 1) ≠ 1
      · rw [if_pos h4] at hf
        refine go_it (t := 48) (f := 28) (L1 := [some (.ref 0), some (.int x1), some (.int x2), some (.int x3)]) (st1 := [.int x2]) (σ1 := σ) rfl h4 ?_
        refine go_n 1 (f := (49, [some (.ref 0), some (.int x1), some (.int x2), some (.int x3)], [.int 0, .int x2], σ)) rfl ?_
        refine go_e (L1 := [some (.ref 0), some (.int x1), none, some (.int x3)]) rfl rfl ?_
        exact fX0_hoursOf_J49_ok _ _ _ _ _ _ hrec4 _ hf
      · rw [if_neg h4] at hf
        refine go_if (t := 48) (f := 28) (L1 := [some (.ref 0), some (.int x1), some (.int x2), some (.int x3)]) (st1 := [.int x2]) (σ1 := σ) rfl h4 ?_
        refine go_n 4 (f := (36, [some (.ref 0), some (.int x1), some (.int x2), some (.int x3)], [.int x3, .ref 8, .int x2], σ)) rfl ?_
        obtain ⟨q5, h6, hf⟩ := bnd hf
        refine go_c (mid := 2825) (args := [.ref 8, .int x3]) (pc := 39) (L := [some (.ref 0), some (.int x1), some (.int x2), some (.int x3)]) (st := [.int x2]) (σ := σ) rfl ((fJ2_get_ok _ _ _ q5 h6).deep (Nat.le_of_ble_eq_true rfl)) ?_
        obtain ⟨h7, hf⟩ := grd hf
        refine go_cast rfl rfl rfl h7 ?_
        obtain ⟨h8, hf⟩ := grd hf
        refine go_get rfl rfl rfl h8 ?_
        refine go_n 1 (f := (49, [some (.ref 0), some (.int x1), some (.int x2), some (.int x3)], [.int (gi σ q5 4), .int x2], σ)) rfl ?_
        refine go_e (L1 := [some (.ref 0), some (.int x1), none, some (.int x3)]) rfl rfl ?_
        exact fX0_hoursOf_J49_ok _ _ _ _ _ _ hrec4 _ hf
def fX0_hoursOf (x1 : Int32) (σ : Sg) : Option Int32 :=
  lp (fX0_hoursOf_L4 x1 σ ) N0 (0, 0)
set_option maxHeartbeats 1500000 in
theorem fX0_hoursOf_ok (x1 : Int32) (σ : Sg) (r : Int32) (hf : fX0_hoursOf x1 σ = some r) : Cl true 3 5209 [.ref 0, .int x1] σ (.inl (some (.int r)), σ) := by
  refine ⟨iX0_hoursOf, rfl, Nat.le_of_ble_eq_true rfl, Nat.le_of_ble_eq_true rfl, ?_⟩
  show Go true 3 iX0_hoursOf (0, [some (.ref 0), some (.int x1), none, none], [], σ) (.inl (some (.int r)), σ)
  unfold fX0_hoursOf at hf
  refine go_n 4 (f := (4, [some (.ref 0), some (.int x1), some (.int 0), some (.int 0)], [], σ)) rfl ?_
  exact fX0_hoursOf_L4_ok _ _   N0 _ _ _ hf
/-! OldWeather.isIn(III)Z -/
def fX0_isIn (x1 : Int32) (x2 : Int32) (x3 : Int32) (σ : Sg) : Option Int32 :=
  if inb x1 200 then if (gi σ 25 x1.toNatClampNeg) = (-1) then some 0 else if inb x1 200 then (fX0_yearOf (gi σ 25 x1.toNatClampNeg) 1).bind fun q4 => if q4 ≠ x2 then some 0 else if inb x1 200 then (fX0_monthOf (gi σ 25 x1.toNatClampNeg) 1).bind fun q8 => ((fun (z11 : Int32) => some z11) ((if q8 ≠ x3 then 0 else 1) : Int32)) else none else none else none
set_option maxHeartbeats 1500000 in
theorem fX0_isIn_ok (x1 : Int32) (x2 : Int32) (x3 : Int32) (σ : Sg) (r : Int32) (hf : fX0_isIn x1 x2 x3 σ = some r) : Cl true 3 5213 [.ref 0, .int x1, .int x2, .int x3] σ (.inl (some (.int r)), σ) := by
  refine ⟨iX0_isIn, rfl, Nat.le_of_ble_eq_true rfl, Nat.le_of_ble_eq_true rfl, ?_⟩
  show Go true 3 iX0_isIn (0, [some (.ref 0), some (.int x1), some (.int x2), some (.int x3)], [], σ) (.inl (some (.int r)), σ)
  unfold fX0_isIn at hf
  refine go_n 3 (f := (5, [some (.ref 0), some (.int x1), some (.int x2), some (.int x3)], [.int x1, .ref 25], σ)) rfl ?_
  obtain ⟨h1, hf⟩ := grd hf
  refine go_iald rfl rfl rfl h1 ?_
  refine go_n 1 (f := (7, [some (.ref 0), some (.int x1), some (.int x2), some (.int x3)], [.int (-1), .int (gi σ 25 x1.toNatClampNeg)], σ)) rfl ?_
  by_cases h2 : (gi σ 25 x1.toNatClampNeg) = (-1)
  · rw [if_pos h2] at hf
    refine go_it (t := 42) (f := 10) (L1 := [some (.ref 0), some (.int x1), some (.int x2), some (.int x3)]) (st1 := []) (σ1 := σ) rfl h2 ?_
    refine go_e (L1 := [none, none, none, none]) rfl rfl ?_
    refine go_n 1 (f := (43, [none, none, none, none], [.int 0], σ)) rfl ?_
    cases hf
    exact go_r rfl
  · rw [if_neg h2] at hf
    refine go_if (t := 42) (f := 10) (L1 := [some (.ref 0), some (.int x1), some (.int x2), some (.int x3)]) (st1 := []) (σ1 := σ) rfl h2 ?_
    refine go_n 3 (f := (15, [some (.ref 0), some (.int x1), some (.int x2), some (.int x3)], [.int x1, .ref 25], σ)) rfl ?_
    obtain ⟨h3, hf⟩ := grd hf
    refine go_iald rfl rfl rfl h3 ?_
    refine go_n 1 (f := (17, [some (.ref 0), some (.int x1), some (.int x2), some (.int x3)], [.int 1, .int (gi σ 25 x1.toNatClampNeg)], σ)) rfl ?_
    obtain ⟨q4, h5, hf⟩ := bnd hf
    refine go_c (mid := 5130) (args := [.int (gi σ 25 x1.toNatClampNeg), .int 1]) (pc := 20) (L := [some (.ref 0), some (.int x1), some (.int x2), some (.int x3)]) (st := []) (σ := σ) rfl ((fX0_yearOf_ok _ _ _ q4 h5).deep (Nat.le_of_ble_eq_true rfl)) ?_
    refine go_n 1 (f := (21, [some (.ref 0), some (.int x1), some (.int x2), some (.int x3)], [.int x2, .int q4], σ)) rfl ?_
    by_cases h6 : q4 ≠ x2
    · rw [if_pos h6] at hf
      refine go_it (t := 42) (f := 24) (L1 := [some (.ref 0), some (.int x1), some (.int x2), some (.int x3)]) (st1 := []) (σ1 := σ) rfl h6 ?_
      refine go_e (L1 := [none, none, none, none]) rfl rfl ?_
      refine go_n 1 (f := (43, [none, none, none, none], [.int 0], σ)) rfl ?_
      cases hf
      exact go_r rfl
    · rw [if_neg h6] at hf
      refine go_if (t := 42) (f := 24) (L1 := [some (.ref 0), some (.int x1), some (.int x2), some (.int x3)]) (st1 := []) (σ1 := σ) rfl h6 ?_
      refine go_n 3 (f := (29, [some (.ref 0), some (.int x1), some (.int x2), some (.int x3)], [.int x1, .ref 25], σ)) rfl ?_
      obtain ⟨h7, hf⟩ := grd hf
      refine go_iald rfl rfl rfl h7 ?_
      refine go_n 1 (f := (31, [some (.ref 0), some (.int x1), some (.int x2), some (.int x3)], [.int 1, .int (gi σ 25 x1.toNatClampNeg)], σ)) rfl ?_
      obtain ⟨q8, h9, hf⟩ := bnd hf
      refine go_c (mid := 5131) (args := [.int (gi σ 25 x1.toNatClampNeg), .int 1]) (pc := 34) (L := [some (.ref 0), some (.int x1), some (.int x2), some (.int x3)]) (st := []) (σ := σ) rfl ((fX0_monthOf_ok _ _ _ q8 h9).deep (Nat.le_of_ble_eq_true rfl)) ?_
      refine go_n 1 (f := (35, [some (.ref 0), some (.int x1), some (.int x2), some (.int x3)], [.int x3, .int q8], σ)) rfl ?_
      refine go_m (f := (43, [none, none, none, none], [.int ((if q8 ≠ x3 then 0 else 1) : Int32)], σ)) ?_ (fun hJ12 => ?_)
      · generalize hz11 : ((if q8 ≠ x3 then 0 else 1) : Int32) = z11 at hf ⊢
        have oz11 : am_ok 3 z11 = true := hz11 ▸ (okb rfl rfl)
        try dsimp only at hf
        cases hf
        exact go_ret rfl rfl (Or.inr (Or.inl ⟨rfl, oz11⟩))
      · by_cases h10 : q8 ≠ x3
        · refine go_it (t := 42) (f := 38) (L1 := [some (.ref 0), some (.int x1), some (.int x2), some (.int x3)]) (st1 := []) (σ1 := σ) rfl h10 ?_
          refine go_e (L1 := [none, none, none, none]) rfl rfl ?_
          refine go_n 1 (f := (43, [none, none, none, none], [.int 0], σ)) rfl ?_
          refine go_e (L1 := [none, none, none, none]) rfl rfl ?_
          simp only [if_pos h10] at hJ12
          first | exact hJ12 | (simp only [if_pos h10]; exact hJ12)
        · refine go_if (t := 42) (f := 38) (L1 := [some (.ref 0), some (.int x1), some (.int x2), some (.int x3)]) (st1 := []) (σ1 := σ) rfl h10 ?_
          refine go_n 2 (f := (43, [some (.ref 0), some (.int x1), some (.int x2), some (.int x3)], [.int 1], σ)) rfl ?_
          refine go_e (L1 := [none, none, none, none]) rfl rfl ?_
          simp only [if_neg h10] at hJ12
          first | exact hJ12 | (simp only [if_neg h10]; exact hJ12)
/-! OldWeather$Gauge.<init>(IIIIII)V -/
def fX10_init (x0 : Nat) (x1 : Int32) (x2 : Int32) (x3 : Int32) (x4 : Int32) (x5 : Int32) (x6 : Int32) (σ : Sg) : Option Sg :=
  (fX8_init x0 x1 x2 x3 x4 x5 x6 σ).bind fun q1 => some q1
set_option maxHeartbeats 1500000 in
theorem fX10_init_ok (x0 : Nat) (x1 : Int32) (x2 : Int32) (x3 : Int32) (x4 : Int32) (x5 : Int32) (x6 : Int32) (σ : Sg) (r : Sg) (hf : fX10_init x0 x1 x2 x3 x4 x5 x6 σ = some r) : Cl true 1 5632 [.ref x0, .int x1, .int x2, .int x3, .int x4, .int x5, .int x6] σ (.inl none, r) := by
  refine ⟨iX10_init, rfl, Nat.le_of_ble_eq_true rfl, Nat.le_of_ble_eq_true rfl, ?_⟩
  show Go true 1 iX10_init (0, [some (.ref x0), some (.int x1), some (.int x2), some (.int x3), some (.int x4), some (.int x5), some (.int x6)], [], σ) (.inl none, r)
  unfold fX10_init at hf
  refine go_n 7 (f := (10, [some (.ref x0), some (.int x1), some (.int x2), some (.int x3), some (.int x4), some (.int x5), some (.int x6)], [.int x6, .int x5, .int x4, .int x3, .int x2, .int x1, .ref x0], σ)) rfl ?_
  obtain ⟨q1, h2, hf⟩ := bnd hf
  refine go_c (mid := 12288) (args := [.ref x0, .int x1, .int x2, .int x3, .int x4, .int x5, .int x6]) (pc := 13) (L := [some (.ref x0), some (.int x1), some (.int x2), some (.int x3), some (.int x4), some (.int x5), some (.int x6)]) (st := []) (σ := σ) rfl ((fX8_init_ok _ _ _ _ _ _ _ _ q1 h2).deep (Nat.le_of_ble_eq_true rfl)) ?_
  cases hf
  exact go_r rfl
/-! OldWeather$Log.<init>(IIIIII)V -/
def fX11_init (x0 : Nat) (x1 : Int32) (x2 : Int32) (x3 : Int32) (x4 : Int32) (x5 : Int32) (x6 : Int32) (σ : Sg) : Option Sg :=
  (fX9_init x0 x1 x2 x3 x4 x5 x6 σ).bind fun q1 => some q1
set_option maxHeartbeats 1500000 in
theorem fX11_init_ok (x0 : Nat) (x1 : Int32) (x2 : Int32) (x3 : Int32) (x4 : Int32) (x5 : Int32) (x6 : Int32) (σ : Sg) (r : Sg) (hf : fX11_init x0 x1 x2 x3 x4 x5 x6 σ = some r) : Cl true 2 5888 [.ref x0, .int x1, .int x2, .int x3, .int x4, .int x5, .int x6] σ (.inl none, r) := by
  refine ⟨iX11_init, rfl, Nat.le_of_ble_eq_true rfl, Nat.le_of_ble_eq_true rfl, ?_⟩
  show Go true 2 iX11_init (0, [some (.ref x0), some (.int x1), some (.int x2), some (.int x3), some (.int x4), some (.int x5), some (.int x6)], [], σ) (.inl none, r)
  unfold fX11_init at hf
  refine go_n 7 (f := (10, [some (.ref x0), some (.int x1), some (.int x2), some (.int x3), some (.int x4), some (.int x5), some (.int x6)], [.int x6, .int x5, .int x4, .int x3, .int x2, .int x1, .ref x0], σ)) rfl ?_
  obtain ⟨q1, h2, hf⟩ := bnd hf
  refine go_c (mid := 12544) (args := [.ref x0, .int x1, .int x2, .int x3, .int x4, .int x5, .int x6]) (pc := 13) (L := [some (.ref x0), some (.int x1), some (.int x2), some (.int x3), some (.int x4), some (.int x5), some (.int x6)]) (st := []) (σ := σ) rfl ((fX9_init_ok _ _ _ _ _ _ _ _ q1 h2).deep (Nat.le_of_ble_eq_true rfl)) ?_
  cases hf
  exact go_r rfl
/-! OldWeather$Proxy.<init>(IIIIIII)V -/
def fX12_init (x0 : Nat) (x1 : Int32) (x2 : Int32) (x3 : Int32) (x4 : Int32) (x5 : Int32) (x6 : Int32) (x7 : Int32) (σ : Sg) : Option Sg :=
  (fX8_init x0 x1 x2 x3 x4 x5 x6 σ).bind fun q1 => if [20].elem (kk q1 x0) = true then some (wi q1 x0 6 x7) else none
set_option maxHeartbeats 1500000 in
theorem fX12_init_ok (x0 : Nat) (x1 : Int32) (x2 : Int32) (x3 : Int32) (x4 : Int32) (x5 : Int32) (x6 : Int32) (x7 : Int32) (σ : Sg) (r : Sg) (hf : fX12_init x0 x1 x2 x3 x4 x5 x6 x7 σ = some r) : Cl true 1 6144 [.ref x0, .int x1, .int x2, .int x3, .int x4, .int x5, .int x6, .int x7] σ (.inl none, r) := by
  refine ⟨iX12_init, rfl, Nat.le_of_ble_eq_true rfl, Nat.le_of_ble_eq_true rfl, ?_⟩
  show Go true 1 iX12_init (0, [some (.ref x0), some (.int x1), some (.int x2), some (.int x3), some (.int x4), some (.int x5), some (.int x6), some (.int x7)], [], σ) (.inl none, r)
  unfold fX12_init at hf
  refine go_n 7 (f := (10, [some (.ref x0), some (.int x1), some (.int x2), some (.int x3), some (.int x4), some (.int x5), some (.int x6), some (.int x7)], [.int x6, .int x5, .int x4, .int x3, .int x2, .int x1, .ref x0], σ)) rfl ?_
  obtain ⟨q1, h2, hf⟩ := bnd hf
  refine go_c (mid := 12288) (args := [.ref x0, .int x1, .int x2, .int x3, .int x4, .int x5, .int x6]) (pc := 13) (L := [some (.ref x0), some (.int x1), some (.int x2), some (.int x3), some (.int x4), some (.int x5), some (.int x6), some (.int x7)]) (st := []) (σ := σ) rfl ((fX8_init_ok _ _ _ _ _ _ _ _ q1 h2).deep (Nat.le_of_ble_eq_true rfl)) ?_
  refine go_n 2 (f := (16, [some (.ref x0), some (.int x1), some (.int x2), some (.int x3), some (.int x4), some (.int x5), some (.int x6), some (.int x7)], [.int x7, .ref x0], q1)) rfl ?_
  obtain ⟨h3, hf⟩ := grd hf
  refine go_puti rfl rfl rfl h3 rfl rfl rfl ?_
  cases hf
  exact go_r rfl
/-! OldWeather$Copied.<init>(IIIIIII)V -/
def fX13_init (x0 : Nat) (x1 : Int32) (x2 : Int32) (x3 : Int32) (x4 : Int32) (x5 : Int32) (x6 : Int32) (x7 : Int32) (σ : Sg) : Option Sg :=
  (fX8_init x0 x1 x2 x3 x4 x5 x6 σ).bind fun q1 => if [21].elem (kk q1 x0) = true then some (wi q1 x0 6 x7) else none
set_option maxHeartbeats 1500000 in
theorem fX13_init_ok (x0 : Nat) (x1 : Int32) (x2 : Int32) (x3 : Int32) (x4 : Int32) (x5 : Int32) (x6 : Int32) (x7 : Int32) (σ : Sg) (r : Sg) (hf : fX13_init x0 x1 x2 x3 x4 x5 x6 x7 σ = some r) : Cl true 1 6400 [.ref x0, .int x1, .int x2, .int x3, .int x4, .int x5, .int x6, .int x7] σ (.inl none, r) := by
  refine ⟨iX13_init, rfl, Nat.le_of_ble_eq_true rfl, Nat.le_of_ble_eq_true rfl, ?_⟩
  show Go true 1 iX13_init (0, [some (.ref x0), some (.int x1), some (.int x2), some (.int x3), some (.int x4), some (.int x5), some (.int x6), some (.int x7)], [], σ) (.inl none, r)
  unfold fX13_init at hf
  refine go_n 7 (f := (10, [some (.ref x0), some (.int x1), some (.int x2), some (.int x3), some (.int x4), some (.int x5), some (.int x6), some (.int x7)], [.int x6, .int x5, .int x4, .int x3, .int x2, .int x1, .ref x0], σ)) rfl ?_
  obtain ⟨q1, h2, hf⟩ := bnd hf
  refine go_c (mid := 12288) (args := [.ref x0, .int x1, .int x2, .int x3, .int x4, .int x5, .int x6]) (pc := 13) (L := [some (.ref x0), some (.int x1), some (.int x2), some (.int x3), some (.int x4), some (.int x5), some (.int x6), some (.int x7)]) (st := []) (σ := σ) rfl ((fX8_init_ok _ _ _ _ _ _ _ _ q1 h2).deep (Nat.le_of_ble_eq_true rfl)) ?_
  refine go_n 2 (f := (16, [some (.ref x0), some (.int x1), some (.int x2), some (.int x3), some (.int x4), some (.int x5), some (.int x6), some (.int x7)], [.int x7, .ref x0], q1)) rfl ?_
  obtain ⟨h3, hf⟩ := grd hf
  refine go_puti rfl rfl rfl h3 rfl rfl rfl ?_
  cases hf
  exact go_r rfl
/-! OldWeather$Reader.next()V -/
def fX15_next_L102 (x0 : Nat)  (rec102 : Sg → Option Sg) (σ : Sg) : Option Sg :=
  if [23].elem (kk σ x0) = true then if (kk σ x0) = 23 then (fX15_isIn x0 (gi σ x0 4) 48 57 σ).bind fun q27 => if q27 = 0 then some σ else if [23].elem (kk σ x0) = true then if [23].elem (kk σ x0) = true then rec102 (wi σ x0 4 ((gi σ x0 4) + 1)) else none else none else none else none
set_option maxHeartbeats 1500000 in
theorem fX15_next_L102_ok (x0 : Nat)   : ∀ (n : Nat) (σ : Sg) (r : Sg), lp (fX15_next_L102 x0 ) n σ = some r → Go true 1 iX15_next (102, [some (.ref x0)], [], σ) (.inl none, r) := by
  intro n
  induction n with
  | zero => intro σ r hf; cases hf
  | succ n ih =>
    intro σ r hf
    have hf : fX15_next_L102 x0  (lp (fX15_next_L102 x0 ) n) σ = some r := hf
    have hrec102 := ih
    generalize lp (fX15_next_L102 x0 ) n = rec102 at hf hrec102
    unfold fX15_next_L102 at hf
    refine go_n 2 (f := (104, [some (.ref x0)], [.ref x0, .ref x0], σ)) rfl ?_
    obtain ⟨h25, hf⟩ := grd hf
    refine go_get rfl rfl rfl h25 ?_
    refine go_n 2 (f := (111, [some (.ref x0)], [.int 57, .int 48, .int (gi σ x0 4), .ref x0], σ)) rfl ?_
    obtain ⟨h26, hf⟩ := grd hf
    obtain ⟨q27, h28, hf⟩ := bnd hf
    refine go_c (mid := 6915) (args := [.ref x0, .int (gi σ x0 4), .int 48, .int 57]) (pc := 114) (L := [some (.ref x0)]) (st := []) (σ := σ) (stp_callV1 (n := 4) rfl rfl rfl ⟨Nat.le_of_ble_eq_true rfl, Nat.le_of_ble_eq_true rfl⟩ rfl h26 rfl) ((fX15_isIn_ok _ _ _ _ _ q27 h28).deep (Nat.le_of_ble_eq_true rfl)) ?_
    by_cases h29 : q27 = 0
    · rw [if_pos h29] at hf
      refine go_it (t := 151) (f := 117) (L1 := [some (.ref x0)]) (st1 := []) (σ1 := σ) rfl h29 ?_
      refine go_e (L1 := [none]) rfl rfl ?_
      cases hf
      exact go_r rfl
    · rw [if_neg h29] at hf
      refine go_if (t := 151) (f := 117) (L1 := [some (.ref x0)]) (st1 := []) (σ1 := σ) rfl h29 ?_
      refine go_n 2 (f := (119, [some (.ref x0)], [.ref x0, .ref x0], σ)) rfl ?_
      obtain ⟨h30, hf⟩ := grd hf
      refine go_get rfl rfl rfl h30 ?_
      refine go_n 2 (f := (124, [some (.ref x0)], [.int ((gi σ x0 4) + 1), .ref x0], σ)) rfl ?_
      obtain ⟨h31, hf⟩ := grd hf
      refine go_puti rfl rfl rfl h31 rfl rfl rfl ?_
      refine go_n 1 (f := (102, [some (.ref x0)], [], (wi σ x0 4 ((gi σ x0 4) + 1)))) rfl ?_
      exact hrec102 _ _ hf
def fX15_next_L59 (x0 : Nat)  (rec59 : Sg → Option Sg) (σ : Sg) : Option Sg :=
  if [23].elem (kk σ x0) = true then if (kk σ x0) = 23 then (fX15_isIn x0 (gi σ x0 4) 97 122 σ).bind fun q34 => if q34 = 0 then some σ else if [23].elem (kk σ x0) = true then if [23].elem (kk σ x0) = true then rec59 (wi σ x0 4 ((gi σ x0 4) + 1)) else none else none else none else none
set_option maxHeartbeats 1500000 in
theorem fX15_next_L59_ok (x0 : Nat)   : ∀ (n : Nat) (σ : Sg) (r : Sg), lp (fX15_next_L59 x0 ) n σ = some r → Go true 1 iX15_next (59, [some (.ref x0)], [], σ) (.inl none, r) := by
  intro n
  induction n with
  | zero => intro σ r hf; cases hf
  | succ n ih =>
    intro σ r hf
    have hf : fX15_next_L59 x0  (lp (fX15_next_L59 x0 ) n) σ = some r := hf
    have hrec59 := ih
    generalize lp (fX15_next_L59 x0 ) n = rec59 at hf hrec59
    unfold fX15_next_L59 at hf
    refine go_n 2 (f := (61, [some (.ref x0)], [.ref x0, .ref x0], σ)) rfl ?_
    obtain ⟨h32, hf⟩ := grd hf
    refine go_get rfl rfl rfl h32 ?_
    refine go_n 2 (f := (68, [some (.ref x0)], [.int 122, .int 97, .int (gi σ x0 4), .ref x0], σ)) rfl ?_
    obtain ⟨h33, hf⟩ := grd hf
    obtain ⟨q34, h35, hf⟩ := bnd hf
    refine go_c (mid := 6915) (args := [.ref x0, .int (gi σ x0 4), .int 97, .int 122]) (pc := 71) (L := [some (.ref x0)]) (st := []) (σ := σ) (stp_callV1 (n := 4) rfl rfl rfl ⟨Nat.le_of_ble_eq_true rfl, Nat.le_of_ble_eq_true rfl⟩ rfl h33 rfl) ((fX15_isIn_ok _ _ _ _ _ q34 h35).deep (Nat.le_of_ble_eq_true rfl)) ?_
    by_cases h36 : q34 = 0
    · rw [if_pos h36] at hf
      refine go_it (t := 151) (f := 74) (L1 := [some (.ref x0)]) (st1 := []) (σ1 := σ) rfl h36 ?_
      refine go_e (L1 := [none]) rfl rfl ?_
      cases hf
      exact go_r rfl
    · rw [if_neg h36] at hf
      refine go_if (t := 151) (f := 74) (L1 := [some (.ref x0)]) (st1 := []) (σ1 := σ) rfl h36 ?_
      refine go_n 2 (f := (76, [some (.ref x0)], [.ref x0, .ref x0], σ)) rfl ?_
      obtain ⟨h37, hf⟩ := grd hf
      refine go_get rfl rfl rfl h37 ?_
      refine go_n 2 (f := (81, [some (.ref x0)], [.int ((gi σ x0 4) + 1), .ref x0], σ)) rfl ?_
      obtain ⟨h38, hf⟩ := grd hf
      refine go_puti rfl rfl rfl h38 rfl rfl rfl ?_
      refine go_n 1 (f := (59, [some (.ref x0)], [], (wi σ x0 4 ((gi σ x0 4) + 1)))) rfl ?_
      exact hrec59 _ _ hf
def fX15_next_L8 (x0 : Nat)  (rec8 : Sg → Option Sg) (σ : Sg) : Option Sg :=
  if [23].elem (kk σ x0) = true then if (kk σ x0) = 23 then (fX15_isIn x0 (gi σ x0 3) 32 32 σ).bind fun q5 => if q5 = 0 then if [23].elem (kk σ x0) = true then if [23].elem (kk σ x0) = true then if [23].elem (kk σ x0) = true then if (kk σ x0) = 23 then (fX15_isIn x0 (gi σ x0 3) 97 122 (wi σ x0 4 (gi σ x0 3))).bind fun q12 => if q12 = 0 then if [23].elem (kk σ x0) = true then if (kk σ x0) = 23 then (fX15_isIn x0 (gi σ x0 3) 48 57 (wi σ x0 4 (gi σ x0 3))).bind fun q17 => if q17 = 0 then if [23].elem (kk σ x0) = true then if [23].elem (kk σ x0) = true then if (gi σ x0 1) ≤ (gi σ x0 3) then some (wi σ x0 4 (gi σ x0 3)) else if [23].elem (kk σ x0) = true then if [23].elem (kk σ x0) = true then some (wi (wi σ x0 4 (gi σ x0 3)) x0 4 ((gi σ x0 3) + 1)) else none else none else none else none else lp (fX15_next_L102 x0 ) N0 (wi σ x0 4 (gi σ x0 3)) else none else none else lp (fX15_next_L59 x0 ) N0 (wi σ x0 4 (gi σ x0 3)) else none else none else none else none else if [23].elem (kk σ x0) = true then if [23].elem (kk σ x0) = true then rec8 (wi σ x0 3 ((gi σ x0 3) + 1)) else none else none else none else none
set_option maxHeartbeats 1500000 in
theorem fX15_next_L8_ok (x0 : Nat)   : ∀ (n : Nat) (σ : Sg) (r : Sg), lp (fX15_next_L8 x0 ) n σ = some r → Go true 1 iX15_next (8, [some (.ref x0)], [], σ) (.inl none, r) := by
  intro n
  induction n with
  | zero => intro σ r hf; cases hf
  | succ n ih =>
    intro σ r hf
    have hf : fX15_next_L8 x0  (lp (fX15_next_L8 x0 ) n) σ = some r := hf
    have hrec8 := ih
    generalize lp (fX15_next_L8 x0 ) n = rec8 at hf hrec8
    unfold fX15_next_L8 at hf
    refine go_n 2 (f := (10, [some (.ref x0)], [.ref x0, .ref x0], σ)) rfl ?_
    obtain ⟨h3, hf⟩ := grd hf
    refine go_get rfl rfl rfl h3 ?_
    refine go_n 2 (f := (17, [some (.ref x0)], [.int 32, .int 32, .int (gi σ x0 3), .ref x0], σ)) rfl ?_
    obtain ⟨h4, hf⟩ := grd hf
    obtain ⟨q5, h6, hf⟩ := bnd hf
    refine go_c (mid := 6915) (args := [.ref x0, .int (gi σ x0 3), .int 32, .int 32]) (pc := 20) (L := [some (.ref x0)]) (st := []) (σ := σ) (stp_callV1 (n := 4) rfl rfl rfl ⟨Nat.le_of_ble_eq_true rfl, Nat.le_of_ble_eq_true rfl⟩ rfl h4 rfl) ((fX15_isIn_ok _ _ _ _ _ q5 h6).deep (Nat.le_of_ble_eq_true rfl)) ?_
    by_cases h7 : q5 = 0
    · rw [if_pos h7] at hf
      refine go_it (t := 36) (f := 23) (L1 := [some (.ref x0)]) (st1 := []) (σ1 := σ) rfl h7 ?_
      refine go_n 2 (f := (38, [some (.ref x0)], [.ref x0, .ref x0], σ)) rfl ?_
      obtain ⟨h8, hf⟩ := grd hf
      refine go_get rfl rfl rfl h8 ?_
      obtain ⟨h9, hf⟩ := grd hf
      refine go_puti rfl rfl rfl h9 rfl rfl rfl ?_
      refine go_n 2 (f := (46, [some (.ref x0)], [.ref x0, .ref x0], (wi σ x0 4 (gi σ x0 3)))) rfl ?_
      obtain ⟨h10, hf⟩ := grd hf
      refine go_get rfl rfl rfl h10 ?_
      rw [show am_rf true (wi σ x0 4 (gi σ x0 3)) x0 3 0 = .int (gi σ x0 3) from by simp [am_rf, gi, gl, wi, wl, wr]]
      refine go_n 2 (f := (53, [some (.ref x0)], [.int 122, .int 97, .int (gi σ x0 3), .ref x0], (wi σ x0 4 (gi σ x0 3)))) rfl ?_
      obtain ⟨h11, hf⟩ := grd hf
      obtain ⟨q12, h13, hf⟩ := bnd hf
      refine go_c (mid := 6915) (args := [.ref x0, .int (gi σ x0 3), .int 97, .int 122]) (pc := 56) (L := [some (.ref x0)]) (st := []) (σ := (wi σ x0 4 (gi σ x0 3))) (stp_callV1 (n := 4) rfl rfl rfl ⟨Nat.le_of_ble_eq_true rfl, Nat.le_of_ble_eq_true rfl⟩ rfl h11 rfl) ((fX15_isIn_ok _ _ _ _ _ q12 h13).deep (Nat.le_of_ble_eq_true rfl)) ?_
      by_cases h14 : q12 = 0
      · rw [if_pos h14] at hf
        refine go_it (t := 87) (f := 59) (L1 := [some (.ref x0)]) (st1 := []) (σ1 := (wi σ x0 4 (gi σ x0 3))) rfl h14 ?_
        refine go_n 2 (f := (89, [some (.ref x0)], [.ref x0, .ref x0], (wi σ x0 4 (gi σ x0 3)))) rfl ?_
        obtain ⟨h15, hf⟩ := grd hf
        refine go_get rfl rfl rfl h15 ?_
        rw [show am_rf true (wi σ x0 4 (gi σ x0 3)) x0 3 0 = .int (gi σ x0 3) from by simp [am_rf, gi, gl, wi, wl, wr]]
        refine go_n 2 (f := (96, [some (.ref x0)], [.int 57, .int 48, .int (gi σ x0 3), .ref x0], (wi σ x0 4 (gi σ x0 3)))) rfl ?_
        obtain ⟨h16, hf⟩ := grd hf
        obtain ⟨q17, h18, hf⟩ := bnd hf
        refine go_c (mid := 6915) (args := [.ref x0, .int (gi σ x0 3), .int 48, .int 57]) (pc := 99) (L := [some (.ref x0)]) (st := []) (σ := (wi σ x0 4 (gi σ x0 3))) (stp_callV1 (n := 4) rfl rfl rfl ⟨Nat.le_of_ble_eq_true rfl, Nat.le_of_ble_eq_true rfl⟩ rfl h16 rfl) ((fX15_isIn_ok _ _ _ _ _ q17 h18).deep (Nat.le_of_ble_eq_true rfl)) ?_
        by_cases h19 : q17 = 0
        · rw [if_pos h19] at hf
          refine go_it (t := 130) (f := 102) (L1 := [some (.ref x0)]) (st1 := []) (σ1 := (wi σ x0 4 (gi σ x0 3))) rfl h19 ?_
          refine go_n 1 (f := (131, [some (.ref x0)], [.ref x0], (wi σ x0 4 (gi σ x0 3)))) rfl ?_
          obtain ⟨h20, hf⟩ := grd hf
          refine go_get rfl rfl rfl h20 ?_
          rw [show am_rf true (wi σ x0 4 (gi σ x0 3)) x0 3 0 = .int (gi σ x0 3) from by simp [am_rf, gi, gl, wi, wl, wr]]
          refine go_n 1 (f := (135, [some (.ref x0)], [.ref x0, .int (gi σ x0 3)], (wi σ x0 4 (gi σ x0 3)))) rfl ?_
          obtain ⟨h21, hf⟩ := grd hf
          refine go_get rfl rfl rfl h21 ?_
          rw [show am_rf true (wi σ x0 4 (gi σ x0 3)) x0 1 0 = .int (gi σ x0 1) from by simp [am_rf, gi, gl, wi, wl, wr]]
          by_cases h22 : (gi σ x0 1) ≤ (gi σ x0 3)
          · rw [if_pos h22] at hf
            refine go_it (t := 151) (f := 141) (L1 := [some (.ref x0)]) (st1 := []) (σ1 := (wi σ x0 4 (gi σ x0 3))) rfl h22 ?_
            refine go_e (L1 := [none]) rfl rfl ?_
            cases hf
            exact go_r rfl
          · rw [if_neg h22] at hf
            refine go_if (t := 151) (f := 141) (L1 := [some (.ref x0)]) (st1 := []) (σ1 := (wi σ x0 4 (gi σ x0 3))) rfl h22 ?_
            refine go_n 2 (f := (143, [some (.ref x0)], [.ref x0, .ref x0], (wi σ x0 4 (gi σ x0 3)))) rfl ?_
            obtain ⟨h23, hf⟩ := grd hf
            refine go_get rfl rfl rfl h23 ?_
            rw [show am_rf true (wi σ x0 4 (gi σ x0 3)) x0 4 0 = .int (gi σ x0 3) from by simp [am_rf, gi, gl, wi, wl, wr]]
            refine go_n 2 (f := (148, [some (.ref x0)], [.int ((gi σ x0 3) + 1), .ref x0], (wi σ x0 4 (gi σ x0 3)))) rfl ?_
            obtain ⟨h24, hf⟩ := grd hf
            refine go_puti rfl rfl rfl h24 rfl rfl rfl ?_
            refine go_e (L1 := [none]) rfl rfl ?_
            cases hf
            exact go_r rfl
        · rw [if_neg h19] at hf
          refine go_if (t := 130) (f := 102) (L1 := [some (.ref x0)]) (st1 := []) (σ1 := (wi σ x0 4 (gi σ x0 3))) rfl h19 ?_
          exact fX15_next_L102_ok _   N0 _ _ hf
      · rw [if_neg h14] at hf
        refine go_if (t := 87) (f := 59) (L1 := [some (.ref x0)]) (st1 := []) (σ1 := (wi σ x0 4 (gi σ x0 3))) rfl h14 ?_
        exact fX15_next_L59_ok _   N0 _ _ hf
    · rw [if_neg h7] at hf
      refine go_if (t := 36) (f := 23) (L1 := [some (.ref x0)]) (st1 := []) (σ1 := σ) rfl h7 ?_
      refine go_n 2 (f := (25, [some (.ref x0)], [.ref x0, .ref x0], σ)) rfl ?_
      obtain ⟨h39, hf⟩ := grd hf
      refine go_get rfl rfl rfl h39 ?_
      refine go_n 2 (f := (30, [some (.ref x0)], [.int ((gi σ x0 3) + 1), .ref x0], σ)) rfl ?_
      obtain ⟨h40, hf⟩ := grd hf
      refine go_puti rfl rfl rfl h40 rfl rfl rfl ?_
      refine go_n 1 (f := (8, [some (.ref x0)], [], (wi σ x0 3 ((gi σ x0 3) + 1)))) rfl ?_
      exact hrec8 _ _ hf
def fX15_next (x0 : Nat) (σ : Sg) : Option Sg :=
  if [23].elem (kk σ x0) = true then if [23].elem (kk σ x0) = true then lp (fX15_next_L8 x0 ) N0 (wi σ x0 3 (gi σ x0 4)) else none else none
set_option maxHeartbeats 1500000 in
theorem fX15_next_ok (x0 : Nat) (σ : Sg) (r : Sg) (hf : fX15_next x0 σ = some r) : Cl true 1 6914 [.ref x0] σ (.inl none, r) := by
  refine ⟨iX15_next, rfl, Nat.le_of_ble_eq_true rfl, Nat.le_of_ble_eq_true rfl, ?_⟩
  show Go true 1 iX15_next (0, [some (.ref x0)], [], σ) (.inl none, r)
  unfold fX15_next at hf
  refine go_n 2 (f := (2, [some (.ref x0)], [.ref x0, .ref x0], σ)) rfl ?_
  obtain ⟨h1, hf⟩ := grd hf
  refine go_get rfl rfl rfl h1 ?_
  obtain ⟨h2, hf⟩ := grd hf
  refine go_puti rfl rfl rfl h2 rfl rfl rfl ?_
  exact fX15_next_L8_ok _   N0 _ _ hf
/-! OldWeather$Reader.takes(Ljava/lang/String;)Z -/
def fX15_takes (x0 : Nat) (x1 : Nat) (σ : Sg) : Option (Int32 × Sg) :=
  if (kk σ x0) = 23 then (fX15_is x0 x1 σ).bind fun q2 => if q2 = 0 then if am_ok 3 q2 = true then some (q2, σ) else none else if (kk σ x0) = 23 then (fX15_next x0 σ).bind fun q7 => if am_ok 3 q2 = true then some (q2, q7) else none else none else none
set_option maxHeartbeats 1500000 in
theorem fX15_takes_ok (x0 : Nat) (x1 : Nat) (σ : Sg) (r : (Int32 × Sg)) (hf : fX15_takes x0 x1 σ = some r) : Cl true 2 6917 [.ref x0, .ref x1] σ (.inl (some (.int (r).1)), (r).2) := by
  refine ⟨iX15_takes, rfl, Nat.le_of_ble_eq_true rfl, Nat.le_of_ble_eq_true rfl, ?_⟩
  show Go true 2 iX15_takes (0, [some (.ref x0), some (.ref x1), none], [], σ) (.inl (some (.int (r).1)), (r).2)
  unfold fX15_takes at hf
  refine go_n 2 (f := (2, [some (.ref x0), some (.ref x1), none], [.ref x1, .ref x0], σ)) rfl ?_
  obtain ⟨h1, hf⟩ := grd hf
  obtain ⟨q2, h3, hf⟩ := bnd hf
  refine go_c (mid := 6918) (args := [.ref x0, .ref x1]) (pc := 5) (L := [some (.ref x0), some (.ref x1), none]) (st := []) (σ := σ) (stp_callV1 (n := 2) rfl rfl rfl ⟨Nat.le_of_ble_eq_true rfl, Nat.le_of_ble_eq_true rfl⟩ rfl h1 rfl) ((fX15_is_ok _ _ _ q2 h3).deep (Nat.le_of_ble_eq_true rfl)) ?_
  refine go_n 2 (f := (7, [some (.ref x0), some (.ref x1), some (.int q2)], [.int q2], σ)) rfl ?_
  by_cases h4 : q2 = 0
  · rw [if_pos h4] at hf
    refine go_it (t := 14) (f := 10) (L1 := [some (.ref x0), some (.ref x1), some (.int q2)]) (st1 := []) (σ1 := σ) rfl h4 ?_
    refine go_e (L1 := [none, none, some (.int q2)]) rfl rfl ?_
    refine go_n 1 (f := (15, [none, none, some (.int q2)], [.int q2], σ)) rfl ?_
    obtain ⟨h5, hf⟩ := grd hf
    cases hf
    exact go_ret rfl rfl (Or.inr (Or.inl ⟨rfl, h5⟩))
  · rw [if_neg h4] at hf
    refine go_if (t := 14) (f := 10) (L1 := [some (.ref x0), some (.ref x1), some (.int q2)]) (st1 := []) (σ1 := σ) rfl h4 ?_
    refine go_n 1 (f := (11, [some (.ref x0), some (.ref x1), some (.int q2)], [.ref x0], σ)) rfl ?_
    obtain ⟨h6, hf⟩ := grd hf
    obtain ⟨q7, h8, hf⟩ := bnd hf
    refine go_c (mid := 6914) (args := [.ref x0]) (pc := 14) (L := [some (.ref x0), some (.ref x1), some (.int q2)]) (st := []) (σ := σ) (stp_callV1 (n := 1) rfl rfl rfl ⟨Nat.le_of_ble_eq_true rfl, Nat.le_of_ble_eq_true rfl⟩ rfl h6 rfl) ((fX15_next_ok _ _ q7 h8).deep (Nat.le_of_ble_eq_true rfl)) ?_
    refine go_e (L1 := [none, none, some (.int q2)]) rfl rfl ?_
    refine go_n 1 (f := (15, [none, none, some (.int q2)], [.int q2], q7)) rfl ?_
    obtain ⟨h9, hf⟩ := grd hf
    cases hf
    exact go_ret rfl rfl (Or.inr (Or.inl ⟨rfl, h9⟩))
/-! OldWeather$Reader.number(II)I -/
def fX15_number_J81 (x0 : Nat)  (σ : Sg) : Option ((Int32 ⊕ (Nat × Nat)) × Sg) :=
  (am_new σ (24, 0) 7).bind fun σ11 => if [23].elem (kk σ11 x0) = true then (fX16_init (gz σ) (gi σ11 x0 3) σ11).bind fun q13 => if (kk q13 (gz σ)) = 24 then some (.inr (1, (gz σ)), q13) else none else none
set_option maxHeartbeats 1500000 in
theorem fX15_number_J81_ok (x0 : Nat)  (σ : Sg)  (r : ((Int32 ⊕ (Nat × Nat)) × Sg)) (hf : fX15_number_J81 x0  σ = some r) : Go true 2 iX15_number (81, [some (.ref x0), none, none, none, none], [], σ) (am_outI r) := by
  unfold fX15_number_J81 at hf
  obtain ⟨σ11, h10, hf⟩ := bnd hf
  refine go_new rfl rfl rfl h10 ?_
  refine go_n 2 (f := (86, [some (.ref x0), none, none, none, none], [.ref x0, .ref (gz σ), .ref (gz σ)], σ11)) rfl ?_
  obtain ⟨h12, hf⟩ := grd hf
  refine go_get rfl rfl rfl h12 ?_
  obtain ⟨q13, h14, hf⟩ := bnd hf
  refine go_c (mid := 7168) (args := [.ref (gz σ), .int (gi σ11 x0 3)]) (pc := 92) (L := [some (.ref x0), none, none, none, none]) (st := [.ref (gz σ)]) (σ := σ11) rfl ((fX16_init_ok _ _ _ q13 h14).deep (Nat.le_of_ble_eq_true rfl)) ?_
  obtain ⟨h15, hf⟩ := grd hf
  cases hf
  exact go_t (am_thr24 rfl rfl h15) rfl
def fX15_number_J71 (x0 : Nat) (x1 : Int32) (x2 : Int32) (x3 : Int32)  (σ : Sg) : Option ((Int32 ⊕ (Nat × Nat)) × Sg) :=
  if x3 < x1 then fX15_number_J81 x0  σ else if x3 ≤ x2 then if (kk σ x0) = 23 then (fX15_next x0 σ).bind fun q18 => some (.inl x3, q18) else none else fX15_number_J81 x0  σ
set_option maxHeartbeats 1500000 in
theorem fX15_number_J71_ok (x0 : Nat) (x1 : Int32) (x2 : Int32) (x3 : Int32)  (σ : Sg)  (r : ((Int32 ⊕ (Nat × Nat)) × Sg)) (hf : fX15_number_J71 x0 x1 x2 x3  σ = some r) : Go true 2 iX15_number (71, [some (.ref x0), some (.int x1), some (.int x2), some (.int x3), none], [], σ) (am_outI r) := by
  unfold fX15_number_J71 at hf
  refine go_n 2 (f := (73, [some (.ref x0), some (.int x1), some (.int x2), some (.int x3), none], [.int x1, .int x3], σ)) rfl ?_
  by_cases h9 : x3 < x1
  · rw [if_pos h9] at hf
    refine go_it (t := 81) (f := 76) (L1 := [some (.ref x0), some (.int x1), some (.int x2), some (.int x3), none]) (st1 := []) (σ1 := σ) rfl h9 ?_
    refine go_e (L1 := [some (.ref x0), none, none, none, none]) rfl rfl ?_
    exact fX15_number_J81_ok _  _  _ hf
  · rw [if_neg h9] at hf
    refine go_if (t := 81) (f := 76) (L1 := [some (.ref x0), some (.int x1), some (.int x2), some (.int x3), none]) (st1 := []) (σ1 := σ) rfl h9 ?_
    refine go_n 2 (f := (78, [some (.ref x0), some (.int x1), some (.int x2), some (.int x3), none], [.int x2, .int x3], σ)) rfl ?_
    by_cases h16 : x3 ≤ x2
    · rw [if_pos h16] at hf
      refine go_it (t := 93) (f := 81) (L1 := [some (.ref x0), some (.int x1), some (.int x2), some (.int x3), none]) (st1 := []) (σ1 := σ) rfl h16 ?_
      refine go_n 1 (f := (94, [some (.ref x0), some (.int x1), some (.int x2), some (.int x3), none], [.ref x0], σ)) rfl ?_
      obtain ⟨h17, hf⟩ := grd hf
      obtain ⟨q18, h19, hf⟩ := bnd hf
      refine go_c (mid := 6914) (args := [.ref x0]) (pc := 97) (L := [some (.ref x0), some (.int x1), some (.int x2), some (.int x3), none]) (st := []) (σ := σ) (stp_callV1 (n := 1) rfl rfl rfl ⟨Nat.le_of_ble_eq_true rfl, Nat.le_of_ble_eq_true rfl⟩ rfl h17 rfl) ((fX15_next_ok _ _ q18 h19).deep (Nat.le_of_ble_eq_true rfl)) ?_
      refine go_n 1 (f := (98, [some (.ref x0), some (.int x1), some (.int x2), some (.int x3), none], [.int x3], q18)) rfl ?_
      cases hf
      exact go_r rfl
    · rw [if_neg h16] at hf
      refine go_if (t := 93) (f := 81) (L1 := [some (.ref x0), some (.int x1), some (.int x2), some (.int x3), none]) (st1 := []) (σ1 := σ) rfl h16 ?_
      refine go_e (L1 := [some (.ref x0), none, none, none, none]) rfl rfl ?_
      exact fX15_number_J81_ok _  _  _ hf
def fX15_number_L35 (x0 : Nat) (x1 : Int32) (x2 : Int32) (σ : Sg)  (rec35 : (Int32 × Int32) → Option ((Int32 ⊕ (Nat × Nat)) × Sg)) (s : Int32 × Int32) : Option ((Int32 ⊕ (Nat × Nat)) × Sg) :=
  match s with
  | (x3, x4) => if [23].elem (kk σ x0) = true then if (gi σ x0 4) ≤ x4 then fX15_number_J71 x0 x1 x2 x3  σ else if x2 < x3 then fX15_number_J71 x0 x1 x2 x3  σ else if [23].elem (kk σ x0) = true then (match (rf σ x0 0) with
  | some a21 => if (kk σ a21) = 3 then if inb x4 (kn σ a21) then rec35 ((((10 * x3) + (gi σ a21 x4.toNatClampNeg)) - 48), (x4 + 1)) else none else none
  | none => none) else none else none
set_option maxHeartbeats 1500000 in
theorem fX15_number_L35_ok (x0 : Nat) (x1 : Int32) (x2 : Int32) (σ : Sg)   : ∀ (n : Nat) (x3 : Int32) (x4 : Int32) (r : ((Int32 ⊕ (Nat × Nat)) × Sg)), lp (fX15_number_L35 x0 x1 x2 σ ) n (x3, x4) = some r → Go true 2 iX15_number (35, [some (.ref x0), some (.int x1), some (.int x2), some (.int x3), some (.int x4)], [], σ) (am_outI r) := by
  intro n
  induction n with
  | zero => intro x3 x4 r hf; cases hf
  | succ n ih =>
    intro x3 x4 r hf
    have hf : fX15_number_L35 x0 x1 x2 σ  (lp (fX15_number_L35 x0 x1 x2 σ ) n) (x3, x4) = some r := hf
    have hrec35 := ih
    generalize lp (fX15_number_L35 x0 x1 x2 σ ) n = rec35 at hf hrec35
    unfold fX15_number_L35 at hf
    dsimp only at hf
    refine go_n 2 (f := (38, [some (.ref x0), some (.int x1), some (.int x2), some (.int x3), some (.int x4)], [.ref x0, .int x4], σ)) rfl ?_
    obtain ⟨h7, hf⟩ := grd hf
    refine go_get rfl rfl rfl h7 ?_
    by_cases h8 : (gi σ x0 4) ≤ x4
    · rw [if_pos h8] at hf
      refine go_it (t := 71) (f := 44) (L1 := [some (.ref x0), some (.int x1), some (.int x2), some (.int x3), some (.int x4)]) (st1 := []) (σ1 := σ) rfl h8 ?_
      refine go_e (L1 := [some (.ref x0), some (.int x1), some (.int x2), some (.int x3), none]) rfl rfl ?_
      exact fX15_number_J71_ok _ _ _ _  _  _ hf
    · rw [if_neg h8] at hf
      refine go_if (t := 71) (f := 44) (L1 := [some (.ref x0), some (.int x1), some (.int x2), some (.int x3), some (.int x4)]) (st1 := []) (σ1 := σ) rfl h8 ?_
      refine go_n 2 (f := (46, [some (.ref x0), some (.int x1), some (.int x2), some (.int x3), some (.int x4)], [.int x2, .int x3], σ)) rfl ?_
      by_cases h20 : x2 < x3
      · rw [if_pos h20] at hf
        refine go_it (t := 71) (f := 49) (L1 := [some (.ref x0), some (.int x1), some (.int x2), some (.int x3), some (.int x4)]) (st1 := []) (σ1 := σ) rfl h20 ?_
        refine go_e (L1 := [some (.ref x0), some (.int x1), some (.int x2), some (.int x3), none]) rfl rfl ?_
        exact fX15_number_J71_ok _ _ _ _  _  _ hf
      · rw [if_neg h20] at hf
        refine go_if (t := 71) (f := 49) (L1 := [some (.ref x0), some (.int x1), some (.int x2), some (.int x3), some (.int x4)]) (st1 := []) (σ1 := σ) rfl h20 ?_
        refine go_n 4 (f := (54, [some (.ref x0), some (.int x1), some (.int x2), some (.int x3), some (.int x4)], [.ref x0, .int (10 * x3)], σ)) rfl ?_
        obtain ⟨h22, hf⟩ := grd hf
        refine go_get rfl rfl rfl h22 ?_
        show Go true 2 iX15_number (57, [some (.ref x0), some (.int x1), some (.int x2), some (.int x3), some (.int x4)], va_rf (rf σ x0 0) :: [.int (10 * x3)], σ) _
        generalize hR23 : (rf σ x0 0) = h26 at hf ⊢
        cases h26 with
        | none =>
          cases hf
        | some a21 =>
          refine go_n 1 (f := (59, [some (.ref x0), some (.int x1), some (.int x2), some (.int x3), some (.int x4)], [.int x4, .ref a21, .int (10 * x3)], σ)) rfl ?_
          obtain ⟨h24, hf⟩ := grd hf
          obtain ⟨h25, hf⟩ := grd hf
          refine go_bald rfl rfl (Or.inl h24) h25 ?_
          refine go_n 5 (f := (68, [some (.ref x0), some (.int x1), some (.int x2), some (.int (((10 * x3) + (gi σ a21 x4.toNatClampNeg)) - 48)), some (.int (x4 + 1))], [], σ)) rfl ?_
          refine go_n 1 (f := (35, [some (.ref x0), some (.int x1), some (.int x2), some (.int (((10 * x3) + (gi σ a21 x4.toNatClampNeg)) - 48)), some (.int (x4 + 1))], [], σ)) rfl ?_
          exact hrec35 _ _ _ hf
def fX15_number (x0 : Nat) (x1 : Int32) (x2 : Int32) (σ : Sg) : Option ((Int32 ⊕ (Nat × Nat)) × Sg) :=
  if [23].elem (kk σ x0) = true then if (kk σ x0) = 23 then (fX15_isIn x0 (gi σ x0 3) 48 57 σ).bind fun q3 => if q3 ≠ 0 then if [23].elem (kk σ x0) = true then lp (fX15_number_L35 x0 x1 x2 σ ) N0 (0, (gi σ x0 3)) else none else (am_new σ (24, 0) 7).bind fun σ28 => if [23].elem (kk σ28 x0) = true then (fX16_init (gz σ) (gi σ28 x0 3) σ28).bind fun q30 => if (kk q30 (gz σ)) = 24 then some (.inr (1, (gz σ)), q30) else none else none else none else none
set_option maxHeartbeats 1500000 in
theorem fX15_number_ok (x0 : Nat) (x1 : Int32) (x2 : Int32) (σ : Sg) (r : ((Int32 ⊕ (Nat × Nat)) × Sg)) (hf : fX15_number x0 x1 x2 σ = some r) : Cl true 2 6919 [.ref x0, .int x1, .int x2] σ (am_outI r) := by
  refine ⟨iX15_number, rfl, Nat.le_of_ble_eq_true rfl, Nat.le_of_ble_eq_true rfl, ?_⟩
  show Go true 2 iX15_number (0, [some (.ref x0), some (.int x1), some (.int x2), none, none], [], σ) (am_outI r)
  unfold fX15_number at hf
  refine go_n 2 (f := (2, [some (.ref x0), some (.int x1), some (.int x2), none, none], [.ref x0, .ref x0], σ)) rfl ?_
  obtain ⟨h1, hf⟩ := grd hf
  refine go_get rfl rfl rfl h1 ?_
  refine go_n 2 (f := (9, [some (.ref x0), some (.int x1), some (.int x2), none, none], [.int 57, .int 48, .int (gi σ x0 3), .ref x0], σ)) rfl ?_
  obtain ⟨h2, hf⟩ := grd hf
  obtain ⟨q3, h4, hf⟩ := bnd hf
  refine go_c (mid := 6915) (args := [.ref x0, .int (gi σ x0 3), .int 48, .int 57]) (pc := 12) (L := [some (.ref x0), some (.int x1), some (.int x2), none, none]) (st := []) (σ := σ) (stp_callV1 (n := 4) rfl rfl rfl ⟨Nat.le_of_ble_eq_true rfl, Nat.le_of_ble_eq_true rfl⟩ rfl h2 rfl) ((fX15_isIn_ok _ _ _ _ _ q3 h4).deep (Nat.le_of_ble_eq_true rfl)) ?_
  by_cases h5 : q3 ≠ 0
  · rw [if_pos h5] at hf
    refine go_it (t := 27) (f := 15) (L1 := [some (.ref x0), some (.int x1), some (.int x2), none, none]) (st1 := []) (σ1 := σ) rfl h5 ?_
    refine go_n 3 (f := (30, [some (.ref x0), some (.int x1), some (.int x2), some (.int 0), none], [.ref x0], σ)) rfl ?_
    obtain ⟨h6, hf⟩ := grd hf
    refine go_get rfl rfl rfl h6 ?_
    refine go_n 1 (f := (35, [some (.ref x0), some (.int x1), some (.int x2), some (.int 0), some (.int (gi σ x0 3))], [], σ)) rfl ?_
    exact fX15_number_L35_ok _ _ _ _   N0 _ _ _ hf
  · rw [if_neg h5] at hf
    refine go_if (t := 27) (f := 15) (L1 := [some (.ref x0), some (.int x1), some (.int x2), none, none]) (st1 := []) (σ1 := σ) rfl h5 ?_
    obtain ⟨σ28, h27, hf⟩ := bnd hf
    refine go_new rfl rfl rfl h27 ?_
    refine go_n 2 (f := (20, [some (.ref x0), some (.int x1), some (.int x2), none, none], [.ref x0, .ref (gz σ), .ref (gz σ)], σ28)) rfl ?_
    obtain ⟨h29, hf⟩ := grd hf
    refine go_get rfl rfl rfl h29 ?_
    obtain ⟨q30, h31, hf⟩ := bnd hf
    refine go_c (mid := 7168) (args := [.ref (gz σ), .int (gi σ28 x0 3)]) (pc := 26) (L := [some (.ref x0), some (.int x1), some (.int x2), none, none]) (st := [.ref (gz σ)]) (σ := σ28) rfl ((fX16_init_ok _ _ _ q30 h31).deep (Nat.le_of_ble_eq_true rfl)) ?_
    obtain ⟨h32, hf⟩ := grd hf
    cases hf
    exact go_t (am_thr24 rfl rfl h32) rfl
/-! OldWeather$Reader.need(Ljava/lang/String;)V -/
def fX15_need (x0 : Nat) (x1 : Nat) (σ : Sg) : Option ((Unit ⊕ (Nat × Nat)) × Sg) :=
  if (kk σ x0) = 23 then (fX15_takes x0 x1 σ).bind fun q2 => if q2.1 ≠ 0 then some (.inl (), q2.2) else (am_new q2.2 (24, 0) 7).bind fun σ6 => if [23].elem (kk σ6 x0) = true then (fX16_init (gz q2.2) (gi σ6 x0 3) σ6).bind fun q8 => if (kk q8 (gz q2.2)) = 24 then some (.inr (1, (gz q2.2)), q8) else none else none else none
set_option maxHeartbeats 1500000 in
theorem fX15_need_ok (x0 : Nat) (x1 : Nat) (σ : Sg) (r : ((Unit ⊕ (Nat × Nat)) × Sg)) (hf : fX15_need x0 x1 σ = some r) : Cl true 3 6920 [.ref x0, .ref x1] σ (am_outV r) := by
  refine ⟨iX15_need, rfl, Nat.le_of_ble_eq_true rfl, Nat.le_of_ble_eq_true rfl, ?_⟩
  show Go true 3 iX15_need (0, [some (.ref x0), some (.ref x1)], [], σ) (am_outV r)
  unfold fX15_need at hf
  refine go_n 2 (f := (2, [some (.ref x0), some (.ref x1)], [.ref x1, .ref x0], σ)) rfl ?_
  obtain ⟨h1, hf⟩ := grd hf
  obtain ⟨q2, h3, hf⟩ := bnd hf
  refine go_c (mid := 6917) (args := [.ref x0, .ref x1]) (pc := 5) (L := [some (.ref x0), some (.ref x1)]) (st := []) (σ := σ) (stp_callV1 (n := 2) rfl rfl rfl ⟨Nat.le_of_ble_eq_true rfl, Nat.le_of_ble_eq_true rfl⟩ rfl h1 rfl) ((fX15_takes_ok _ _ _ q2 h3).deep (Nat.le_of_ble_eq_true rfl)) ?_
  by_cases h4 : q2.1 ≠ 0
  · rw [if_pos h4] at hf
    refine go_it (t := 20) (f := 8) (L1 := [some (.ref x0), some (.ref x1)]) (st1 := []) (σ1 := q2.2) rfl h4 ?_
    cases hf
    exact go_r rfl
  · rw [if_neg h4] at hf
    refine go_if (t := 20) (f := 8) (L1 := [some (.ref x0), some (.ref x1)]) (st1 := []) (σ1 := q2.2) rfl h4 ?_
    obtain ⟨σ6, h5, hf⟩ := bnd hf
    refine go_new rfl rfl rfl h5 ?_
    refine go_n 2 (f := (13, [some (.ref x0), some (.ref x1)], [.ref x0, .ref (gz q2.2), .ref (gz q2.2)], σ6)) rfl ?_
    obtain ⟨h7, hf⟩ := grd hf
    refine go_get rfl rfl rfl h7 ?_
    obtain ⟨q8, h9, hf⟩ := bnd hf
    refine go_c (mid := 7168) (args := [.ref (gz q2.2), .int (gi σ6 x0 3)]) (pc := 19) (L := [some (.ref x0), some (.ref x1)]) (st := [.ref (gz q2.2)]) (σ := σ6) rfl ((fX16_init_ok _ _ _ q8 h9).deep (Nat.le_of_ble_eq_true rfl)) ?_
    obtain ⟨h10, hf⟩ := grd hf
    cases hf
    exact go_t (am_thr24 rfl rfl h10) rfl
/-! OldWeather$Reader.opens()V -/
def fX15_opens (x0 : Nat) (σ : Sg) : Option ((Unit ⊕ (Nat × Nat)) × Sg) :=
  if [23].elem (kk σ x0) = true then if (gi σ x0 6) ≠ 8 then if [23].elem (kk σ x0) = true then if [23].elem (kk σ x0) = true then if (kk σ x0) = 23 then (fX15_next x0 (wi σ x0 6 ((gi σ x0 6) + 1))).bind fun q6 => some (.inl (), q6) else none else none else none else (am_new σ (24, 0) 7).bind fun σ9 => if [23].elem (kk σ9 x0) = true then (fX16_init (gz σ) (gi σ9 x0 3) σ9).bind fun q11 => if (kk q11 (gz σ)) = 24 then some (.inr (1, (gz σ)), q11) else none else none else none
set_option maxHeartbeats 1500000 in
theorem fX15_opens_ok (x0 : Nat) (σ : Sg) (r : ((Unit ⊕ (Nat × Nat)) × Sg)) (hf : fX15_opens x0 σ = some r) : Cl true 2 6925 [.ref x0] σ (am_outV r) := by
  refine ⟨iX15_opens, rfl, Nat.le_of_ble_eq_true rfl, Nat.le_of_ble_eq_true rfl, ?_⟩
  show Go true 2 iX15_opens (0, [some (.ref x0)], [], σ) (am_outV r)
  unfold fX15_opens at hf
  refine go_n 1 (f := (1, [some (.ref x0)], [.ref x0], σ)) rfl ?_
  obtain ⟨h1, hf⟩ := grd hf
  refine go_get rfl rfl rfl h1 ?_
  refine go_n 1 (f := (6, [some (.ref x0)], [.int 8, .int (gi σ x0 6)], σ)) rfl ?_
  by_cases h2 : (gi σ x0 6) ≠ 8
  · rw [if_pos h2] at hf
    refine go_it (t := 21) (f := 9) (L1 := [some (.ref x0)]) (st1 := []) (σ1 := σ) rfl h2 ?_
    refine go_n 2 (f := (23, [some (.ref x0)], [.ref x0, .ref x0], σ)) rfl ?_
    obtain ⟨h3, hf⟩ := grd hf
    refine go_get rfl rfl rfl h3 ?_
    refine go_n 2 (f := (28, [some (.ref x0)], [.int ((gi σ x0 6) + 1), .ref x0], σ)) rfl ?_
    obtain ⟨h4, hf⟩ := grd hf
    refine go_puti rfl rfl rfl h4 rfl rfl rfl ?_
    refine go_n 1 (f := (32, [some (.ref x0)], [.ref x0], (wi σ x0 6 ((gi σ x0 6) + 1)))) rfl ?_
    obtain ⟨h5, hf⟩ := grd hf
    obtain ⟨q6, h7, hf⟩ := bnd hf
    refine go_c (mid := 6914) (args := [.ref x0]) (pc := 35) (L := [some (.ref x0)]) (st := []) (σ := (wi σ x0 6 ((gi σ x0 6) + 1))) (stp_callV1 (n := 1) rfl rfl rfl ⟨Nat.le_of_ble_eq_true rfl, Nat.le_of_ble_eq_true rfl⟩ rfl h5 rfl) ((fX15_next_ok _ _ q6 h7).deep (Nat.le_of_ble_eq_true rfl)) ?_
    cases hf
    exact go_r rfl
  · rw [if_neg h2] at hf
    refine go_if (t := 21) (f := 9) (L1 := [some (.ref x0)]) (st1 := []) (σ1 := σ) rfl h2 ?_
    obtain ⟨σ9, h8, hf⟩ := bnd hf
    refine go_new rfl rfl rfl h8 ?_
    refine go_n 2 (f := (14, [some (.ref x0)], [.ref x0, .ref (gz σ), .ref (gz σ)], σ9)) rfl ?_
    obtain ⟨h10, hf⟩ := grd hf
    refine go_get rfl rfl rfl h10 ?_
    obtain ⟨q11, h12, hf⟩ := bnd hf
    refine go_c (mid := 7168) (args := [.ref (gz σ), .int (gi σ9 x0 3)]) (pc := 20) (L := [some (.ref x0)]) (st := [.ref (gz σ)]) (σ := σ9) rfl ((fX16_init_ok _ _ _ q11 h12).deep (Nat.le_of_ble_eq_true rfl)) ?_
    obtain ⟨h13, hf⟩ := grd hf
    cases hf
    exact go_t (am_thr24 rfl rfl h13) rfl
/-! OldWeather$Reader.leaf()V -/
def fX15_leaf (x0 : Nat) (σ : Sg) : Option ((Unit ⊕ (Nat × Nat)) × Sg) :=
  if [23].elem (kk σ x0) = true then if (gi σ x0 5) ≠ 60 then if [23].elem (kk σ x0) = true then if [23].elem (kk σ x0) = true then some (.inl (), (wi σ x0 5 ((gi σ x0 5) + 1))) else none else none else (am_new σ (24, 0) 7).bind fun σ6 => if [23].elem (kk σ6 x0) = true then (fX16_init (gz σ) (gi σ6 x0 3) σ6).bind fun q8 => if (kk q8 (gz σ)) = 24 then some (.inr (1, (gz σ)), q8) else none else none else none
set_option maxHeartbeats 1500000 in
theorem fX15_leaf_ok (x0 : Nat) (σ : Sg) (r : ((Unit ⊕ (Nat × Nat)) × Sg)) (hf : fX15_leaf x0 σ = some r) : Cl true 1 6926 [.ref x0] σ (am_outV r) := by
  refine ⟨iX15_leaf, rfl, Nat.le_of_ble_eq_true rfl, Nat.le_of_ble_eq_true rfl, ?_⟩
  show Go true 1 iX15_leaf (0, [some (.ref x0)], [], σ) (am_outV r)
  unfold fX15_leaf at hf
  refine go_n 1 (f := (1, [some (.ref x0)], [.ref x0], σ)) rfl ?_
  obtain ⟨h1, hf⟩ := grd hf
  refine go_get rfl rfl rfl h1 ?_
  refine go_n 1 (f := (6, [some (.ref x0)], [.int 60, .int (gi σ x0 5)], σ)) rfl ?_
  by_cases h2 : (gi σ x0 5) ≠ 60
  · rw [if_pos h2] at hf
    refine go_it (t := 21) (f := 9) (L1 := [some (.ref x0)]) (st1 := []) (σ1 := σ) rfl h2 ?_
    refine go_n 2 (f := (23, [some (.ref x0)], [.ref x0, .ref x0], σ)) rfl ?_
    obtain ⟨h3, hf⟩ := grd hf
    refine go_get rfl rfl rfl h3 ?_
    refine go_n 2 (f := (28, [some (.ref x0)], [.int ((gi σ x0 5) + 1), .ref x0], σ)) rfl ?_
    obtain ⟨h4, hf⟩ := grd hf
    refine go_puti rfl rfl rfl h4 rfl rfl rfl ?_
    cases hf
    exact go_r rfl
  · rw [if_neg h2] at hf
    refine go_if (t := 21) (f := 9) (L1 := [some (.ref x0)]) (st1 := []) (σ1 := σ) rfl h2 ?_
    obtain ⟨σ6, h5, hf⟩ := bnd hf
    refine go_new rfl rfl rfl h5 ?_
    refine go_n 2 (f := (14, [some (.ref x0)], [.ref x0, .ref (gz σ), .ref (gz σ)], σ6)) rfl ?_
    obtain ⟨h7, hf⟩ := grd hf
    refine go_get rfl rfl rfl h7 ?_
    obtain ⟨q8, h9, hf⟩ := bnd hf
    refine go_c (mid := 7168) (args := [.ref (gz σ), .int (gi σ6 x0 3)]) (pc := 20) (L := [some (.ref x0)]) (st := [.ref (gz σ)]) (σ := σ6) rfl ((fX16_init_ok _ _ _ q8 h9).deep (Nat.le_of_ble_eq_true rfl)) ?_
    obtain ⟨h10, hf⟩ := grd hf
    cases hf
    exact go_t (am_thr24 rfl rfl h10) rfl
/-! OldWeather$Reader.kind()I -/
def fX15_kind (x0 : Nat) (σ : Sg) : Option ((Int32 ⊕ (Nat × Nat)) × Sg) :=
  if (kk σ x0) = 23 then (fX15_takes x0 1000022 σ).bind fun q2 => if q2.1 = 0 then if (kk q2.2 x0) = 23 then (fX15_takes x0 1000023 q2.2).bind fun q6 => if q6.1 = 0 then if (kk q6.2 x0) = 23 then (fX15_takes x0 1000019 q6.2).bind fun q10 => if q10.1 = 0 then if (kk q10.2 x0) = 23 then ((fX15_need x0 1000024 q10.2).bind fun q14 => match q14 with
  | (.inl v16, τ17) => some (.inl 4, τ17)
  | (.inr e18, τ17) => some (.inr e18, τ17)) else none else some (.inl 3, q10.2) else none else some (.inl 1, q6.2) else none else some (.inl 0, q2.2) else none
set_option maxHeartbeats 1500000 in
theorem fX15_kind_ok (x0 : Nat) (σ : Sg) (r : ((Int32 ⊕ (Nat × Nat)) × Sg)) (hf : fX15_kind x0 σ = some r) : Cl true 4 6928 [.ref x0] σ (am_outI r) := by
  refine ⟨iX15_kind, rfl, Nat.le_of_ble_eq_true rfl, Nat.le_of_ble_eq_true rfl, ?_⟩
  show Go true 4 iX15_kind (0, [some (.ref x0)], [], σ) (am_outI r)
  unfold fX15_kind at hf
  refine go_n 2 (f := (3, [some (.ref x0)], [.ref 1000022, .ref x0], σ)) rfl ?_
  obtain ⟨h1, hf⟩ := grd hf
  obtain ⟨q2, h3, hf⟩ := bnd hf
  refine go_c (mid := 6917) (args := [.ref x0, .ref 1000022]) (pc := 6) (L := [some (.ref x0)]) (st := []) (σ := σ) (stp_callV1 (n := 2) rfl rfl rfl ⟨Nat.le_of_ble_eq_true rfl, Nat.le_of_ble_eq_true rfl⟩ rfl h1 rfl) ((fX15_takes_ok _ _ _ q2 h3).deep (Nat.le_of_ble_eq_true rfl)) ?_
  by_cases h4 : q2.1 = 0
  · rw [if_pos h4] at hf
    refine go_it (t := 11) (f := 9) (L1 := [some (.ref x0)]) (st1 := []) (σ1 := q2.2) rfl h4 ?_
    refine go_n 2 (f := (14, [some (.ref x0)], [.ref 1000023, .ref x0], q2.2)) rfl ?_
    obtain ⟨h5, hf⟩ := grd hf
    obtain ⟨q6, h7, hf⟩ := bnd hf
    refine go_c (mid := 6917) (args := [.ref x0, .ref 1000023]) (pc := 17) (L := [some (.ref x0)]) (st := []) (σ := q2.2) (stp_callV1 (n := 2) rfl rfl rfl ⟨Nat.le_of_ble_eq_true rfl, Nat.le_of_ble_eq_true rfl⟩ rfl h5 rfl) ((fX15_takes_ok _ _ _ q6 h7).deep (Nat.le_of_ble_eq_true rfl)) ?_
    by_cases h8 : q6.1 = 0
    · rw [if_pos h8] at hf
      refine go_it (t := 22) (f := 20) (L1 := [some (.ref x0)]) (st1 := []) (σ1 := q6.2) rfl h8 ?_
      refine go_n 2 (f := (25, [some (.ref x0)], [.ref 1000019, .ref x0], q6.2)) rfl ?_
      obtain ⟨h9, hf⟩ := grd hf
      obtain ⟨q10, h11, hf⟩ := bnd hf
      refine go_c (mid := 6917) (args := [.ref x0, .ref 1000019]) (pc := 28) (L := [some (.ref x0)]) (st := []) (σ := q6.2) (stp_callV1 (n := 2) rfl rfl rfl ⟨Nat.le_of_ble_eq_true rfl, Nat.le_of_ble_eq_true rfl⟩ rfl h9 rfl) ((fX15_takes_ok _ _ _ q10 h11).deep (Nat.le_of_ble_eq_true rfl)) ?_
      by_cases h12 : q10.1 = 0
      · rw [if_pos h12] at hf
        refine go_it (t := 33) (f := 31) (L1 := [some (.ref x0)]) (st1 := []) (σ1 := q10.2) rfl h12 ?_
        refine go_n 2 (f := (36, [some (.ref x0)], [.ref 1000024, .ref x0], q10.2)) rfl ?_
        obtain ⟨h13, hf⟩ := grd hf
        obtain ⟨⟨v16 | e18, τ17⟩, h15, hf⟩ := bnd hf
        · try dsimp only at hf
          refine go_c (mid := 6920) (args := [.ref x0, .ref 1000024]) (pc := 39) (L := [some (.ref x0)]) (st := []) (σ := q10.2) (stp_callV1 (n := 2) rfl rfl rfl ⟨Nat.le_of_ble_eq_true rfl, Nat.le_of_ble_eq_true rfl⟩ rfl h13 rfl) ((fX15_need_ok _ _ _ _ h15).deep (Nat.le_of_ble_eq_true rfl)) ?_
          refine go_n 1 (f := (40, [some (.ref x0)], [.int 4], τ17)) rfl ?_
          cases hf
          exact go_r rfl
        · try dsimp only at hf
          cases hf
          obtain ⟨ec, ea⟩ := e18
          exact go_ct (mid := 6920) (args := [.ref x0, .ref 1000024]) (pc := 39) (L := [some (.ref x0)]) (st := []) (σ := q10.2) (stp_callV1 (n := 2) rfl rfl rfl ⟨Nat.le_of_ble_eq_true rfl, Nat.le_of_ble_eq_true rfl⟩ rfl h13 rfl) ((fX15_need_ok _ _ _ _ h15).deep (Nat.le_of_ble_eq_true rfl)) rfl
      · rw [if_neg h12] at hf
        refine go_if (t := 33) (f := 31) (L1 := [some (.ref x0)]) (st1 := []) (σ1 := q10.2) rfl h12 ?_
        refine go_n 1 (f := (32, [some (.ref x0)], [.int 3], q10.2)) rfl ?_
        cases hf
        exact go_r rfl
    · rw [if_neg h8] at hf
      refine go_if (t := 22) (f := 20) (L1 := [some (.ref x0)]) (st1 := []) (σ1 := q6.2) rfl h8 ?_
      refine go_n 1 (f := (21, [some (.ref x0)], [.int 1], q6.2)) rfl ?_
      cases hf
      exact go_r rfl
  · rw [if_neg h4] at hf
    refine go_if (t := 11) (f := 9) (L1 := [some (.ref x0)]) (st1 := []) (σ1 := q2.2) rfl h4 ?_
    refine go_n 1 (f := (10, [some (.ref x0)], [.int 0], q2.2)) rfl ?_
    cases hf
    exact go_r rfl
/-! OldWeather$Force.goes(LOldWeather$Rules;)V -/
def fX2_goes_J105 (x1 : Nat) (x2 : Int32) (rec2 : (Int32 × Sg) → Option Sg) (σ : Sg) : Option Sg :=
  rec2 ((x2 + 1), σ)
set_option maxHeartbeats 1500000 in
theorem fX2_goes_J105_ok (x1 : Nat) (x2 : Int32) (rec2 : (Int32 × Sg) → Option Sg) (σ : Sg) (hrec2 : ∀ (y2 : Int32) (τ : Sg) (r : Sg), rec2 (y2, τ) = some r → Go true 3 iX2_goes (2, [some (.ref 28), some (.ref x1), some (.int y2), none, none], [], τ) (.inl none, r)) (r : Sg) (hf : fX2_goes_J105 x1 x2 rec2 σ = some r) : Go true 3 iX2_goes (105, [some (.ref 28), some (.ref x1), some (.int x2), none, none], [], σ) (.inl none, r) := by
  unfold fX2_goes_J105 at hf
  refine go_n 2 (f := (2, [some (.ref 28), some (.ref x1), some (.int (x2 + 1)), none, none], [], σ)) rfl ?_
  exact hrec2 _ _ _ hf
def fX2_goes_L2 (x1 : Nat)  (rec2 : (Int32 × Sg) → Option Sg) (s : Int32 × Sg) : Option Sg :=
  match s with
  | (x2, σ) => if [34].elem (kk σ x1) = true then (match (rf σ x1 2) with
  | some a1 => if (kk σ a1) = 16 then (fJ2_size a1 σ).bind fun q5 => if q5 ≤ x2 then some σ else if [34].elem (kk σ x1) = true then if inb ((12 * (gi σ x1 0)) + x2) 240 then ((fun (z11 : Int32) => if inb ((12 * (gi σ x1 0)) + x2) 240 then if [34].elem (kk σ x1) = true then if (kk σ a1) = 16 then (fJ2_get a1 x2 (wi σ 29 ((12 * (gi σ x1 0)) + x2).toNatClampNeg (am_nr 4 z11))).bind fun q16 => if [26].elem (kk σ q16) = true then if inb ((12 * (gi σ x1 0)) + x2) 240 then if (gi (wi σ 29 ((12 * (gi σ x1 0)) + x2).toNatClampNeg (am_nr 4 z11)) 29 ((12 * (gi σ x1 0)) + x2).toNatClampNeg) = 0 then fX2_goes_J105 x1 x2 rec2 (wi σ 29 ((12 * (gi σ x1 0)) + x2).toNatClampNeg (am_nr 4 z11)) else if [26].elem (kk σ q16) = true then if (gi (wi σ 29 ((12 * (gi σ x1 0)) + x2).toNatClampNeg (am_nr 4 z11)) q16 0) ≠ 0 then fX2_goes_J105 x1 x2 rec2 (wi σ 29 ((12 * (gi σ x1 0)) + x2).toNatClampNeg (am_nr 4 z11)) else if [26].elem (kk σ q16) = true then if [34].elem (kk σ x1) = true then if (gi (wi σ 29 ((12 * (gi σ x1 0)) + x2).toNatClampNeg (am_nr 4 z11)) x1 0) ≤ (gi (wi σ 29 ((12 * (gi σ x1 0)) + x2).toNatClampNeg (am_nr 4 z11)) q16 1) then fX2_goes_J105 x1 x2 rec2 (wi σ 29 ((12 * (gi σ x1 0)) + x2).toNatClampNeg (am_nr 4 z11)) else if [26].elem (kk σ q16) = true then if [26].elem (kk σ q16) = true then if inb ((12 * (gi (wi σ 29 ((12 * (gi σ x1 0)) + x2).toNatClampNeg (am_nr 4 z11)) q16 1)) + (gi (wi σ 29 ((12 * (gi σ x1 0)) + x2).toNatClampNeg (am_nr 4 z11)) q16 2)) 240 then fX2_goes_J105 x1 x2 rec2 (wi (wi σ 29 ((12 * (gi σ x1 0)) + x2).toNatClampNeg (am_nr 4 z11)) 30 ((12 * (gi (wi σ 29 ((12 * (gi σ x1 0)) + x2).toNatClampNeg (am_nr 4 z11)) q16 1)) + (gi (wi σ 29 ((12 * (gi σ x1 0)) + x2).toNatClampNeg (am_nr 4 z11)) q16 2)).toNatClampNeg 1) else none else none else none else none else none else none else none else none else none else none else none) ((if (gi σ 30 ((12 * (gi σ x1 0)) + x2).toNatClampNeg) ≠ 0 then 0 else 1) : Int32)) else none else none else none
  | none => none) else none
set_option maxHeartbeats 1500000 in
theorem fX2_goes_L2_ok (x1 : Nat)   : ∀ (n : Nat) (x2 : Int32) (σ : Sg) (r : Sg), lp (fX2_goes_L2 x1 ) n (x2, σ) = some r → Go true 3 iX2_goes (2, [some (.ref 28), some (.ref x1), some (.int x2), none, none], [], σ) (.inl none, r) := by
  intro n
  induction n with
  | zero => intro x2 σ r hf; cases hf
  | succ n ih =>
    intro x2 σ r hf
    have hf : fX2_goes_L2 x1  (lp (fX2_goes_L2 x1 ) n) (x2, σ) = some r := hf
    have hrec2 := ih
    generalize lp (fX2_goes_L2 x1 ) n = rec2 at hf hrec2
    unfold fX2_goes_L2 at hf
    dsimp only at hf
    refine go_n 2 (f := (4, [some (.ref 28), some (.ref x1), some (.int x2), none, none], [.ref x1, .int x2], σ)) rfl ?_
    obtain ⟨h2, hf⟩ := grd hf
    refine go_get rfl rfl rfl h2 ?_
    show Go true 3 iX2_goes (7, [some (.ref 28), some (.ref x1), some (.int x2), none, none], va_rf (rf σ x1 2) :: [.int x2], σ) _
    generalize hR3 : (rf σ x1 2) = h30 at hf ⊢
    cases h30 with
    | none =>
      cases hf
    | some a1 =>
      obtain ⟨h4, hf⟩ := grd hf
      obtain ⟨q5, h6, hf⟩ := bnd hf
      refine go_c (mid := 2821) (args := [.ref a1]) (pc := 10) (L := [some (.ref 28), some (.ref x1), some (.int x2), none, none]) (st := [.int x2]) (σ := σ) (stp_callV1 (n := 1) rfl rfl rfl ⟨Nat.le_of_ble_eq_true rfl, Nat.le_of_ble_eq_true rfl⟩ rfl h4 rfl) ((fJ2_size_ok _ _ q5 h6).deep (Nat.le_of_ble_eq_true rfl)) ?_
      by_cases h7 : q5 ≤ x2
      · rw [if_pos h7] at hf
        refine go_it (t := 111) (f := 13) (L1 := [some (.ref 28), some (.ref x1), some (.int x2), none, none]) (st1 := []) (σ1 := σ) rfl h7 ?_
        cases hf
        exact go_r rfl
      · rw [if_neg h7] at hf
        refine go_if (t := 111) (f := 13) (L1 := [some (.ref 28), some (.ref x1), some (.int x2), none, none]) (st1 := []) (σ1 := σ) rfl h7 ?_
        refine go_n 2 (f := (16, [some (.ref 28), some (.ref x1), some (.int x2), none, none], [.ref x1, .int 12], σ)) rfl ?_
        obtain ⟨h8, hf⟩ := grd hf
        refine go_get rfl rfl rfl h8 ?_
        refine go_n 10 (f := (33, [some (.ref 28), some (.ref x1), some (.int x2), some (.int ((12 * (gi σ x1 0)) + x2)), none], [.int ((12 * (gi σ x1 0)) + x2), .ref 30, .int ((12 * (gi σ x1 0)) + x2), .ref 29], σ)) rfl ?_
        obtain ⟨h9, hf⟩ := grd hf
        refine go_bald rfl rfl (Or.inr rfl) h9 ?_
        refine go_m (f := (42, [some (.ref 28), some (.ref x1), some (.int x2), some (.int ((12 * (gi σ x1 0)) + x2)), none], [.int ((if (gi σ 30 ((12 * (gi σ x1 0)) + x2).toNatClampNeg) ≠ 0 then 0 else 1) : Int32), .int ((12 * (gi σ x1 0)) + x2), .ref 29], σ)) ?_ (fun hJ29 => ?_)
        · generalize hz11 : ((if (gi σ 30 ((12 * (gi σ x1 0)) + x2).toNatClampNeg) ≠ 0 then 0 else 1) : Int32) = z11 at hf ⊢
          have oz11 : am_ok 3 z11 = true := hz11 ▸ (okb rfl rfl)
          try dsimp only at hf
          obtain ⟨h12, hf⟩ := grd hf
          refine go_bast rfl rfl (Or.inr rfl) h12 ?_
          refine go_n 1 (f := (44, [some (.ref 28), some (.ref x1), some (.int x2), some (.int ((12 * (gi σ x1 0)) + x2)), none], [.ref x1], (wi σ 29 ((12 * (gi σ x1 0)) + x2).toNatClampNeg (am_nr 4 z11)))) rfl ?_
          obtain ⟨h14, hf⟩ := grd hf
          refine go_get rfl rfl rfl h14 ?_
          rw [show am_rf true (wi σ 29 ((12 * (gi σ x1 0)) + x2).toNatClampNeg (am_nr 4 z11)) x1 2 2 = .ref a1 from (show am_rf true (wi σ 29 ((12 * (gi σ x1 0)) + x2).toNatClampNeg (am_nr 4 z11)) x1 2 2 = va_rf (rf σ x1 2) from by simp [am_rf, rf, grT, gr, wr, wi, wl]).trans (by rw [hR3]; rfl)]
          refine go_n 1 (f := (48, [some (.ref 28), some (.ref x1), some (.int x2), some (.int ((12 * (gi σ x1 0)) + x2)), none], [.int x2, .ref a1], (wi σ 29 ((12 * (gi σ x1 0)) + x2).toNatClampNeg (am_nr 4 z11)))) rfl ?_
          obtain ⟨h15, hf⟩ := grd hf
          obtain ⟨q16, h17, hf⟩ := bnd hf
          refine go_c (mid := 2825) (args := [.ref a1, .int x2]) (pc := 51) (L := [some (.ref 28), some (.ref x1), some (.int x2), some (.int ((12 * (gi σ x1 0)) + x2)), none]) (st := []) (σ := (wi σ 29 ((12 * (gi σ x1 0)) + x2).toNatClampNeg (am_nr 4 z11))) (stp_callV1 (n := 2) rfl rfl rfl ⟨Nat.le_of_ble_eq_true rfl, Nat.le_of_ble_eq_true rfl⟩ rfl h15 rfl) ((fJ2_get_ok _ _ _ q16 h17).deep (Nat.le_of_ble_eq_true rfl)) ?_
          obtain ⟨h18, hf⟩ := grd hf
          refine go_cast rfl rfl rfl h18 ?_
          refine go_n 4 (f := (61, [some (.ref 28), some (.ref x1), some (.int x2), some (.int ((12 * (gi σ x1 0)) + x2)), some (.ref q16)], [.int ((12 * (gi σ x1 0)) + x2), .ref 29], (wi σ 29 ((12 * (gi σ x1 0)) + x2).toNatClampNeg (am_nr 4 z11)))) rfl ?_
          obtain ⟨h19, hf⟩ := grd hf
          refine go_bald rfl rfl (Or.inr rfl) h19 ?_
          by_cases h20 : (gi (wi σ 29 ((12 * (gi σ x1 0)) + x2).toNatClampNeg (am_nr 4 z11)) 29 ((12 * (gi σ x1 0)) + x2).toNatClampNeg) = 0
          · rw [if_pos h20] at hf
            refine go_it (t := 105) (f := 65) (L1 := [some (.ref 28), some (.ref x1), some (.int x2), some (.int ((12 * (gi σ x1 0)) + x2)), some (.ref q16)]) (st1 := []) (σ1 := (wi σ 29 ((12 * (gi σ x1 0)) + x2).toNatClampNeg (am_nr 4 z11))) rfl h20 ?_
            refine go_e (L1 := [some (.ref 28), some (.ref x1), some (.int x2), none, none]) rfl rfl ?_
            exact fX2_goes_J105_ok _ _ _ _ hrec2 _ hf
          · rw [if_neg h20] at hf
            refine go_if (t := 105) (f := 65) (L1 := [some (.ref 28), some (.ref x1), some (.int x2), some (.int ((12 * (gi σ x1 0)) + x2)), some (.ref q16)]) (st1 := []) (σ1 := (wi σ 29 ((12 * (gi σ x1 0)) + x2).toNatClampNeg (am_nr 4 z11))) rfl h20 ?_
            refine go_n 1 (f := (67, [some (.ref 28), some (.ref x1), some (.int x2), some (.int ((12 * (gi σ x1 0)) + x2)), some (.ref q16)], [.ref q16], (wi σ 29 ((12 * (gi σ x1 0)) + x2).toNatClampNeg (am_nr 4 z11)))) rfl ?_
            obtain ⟨h21, hf⟩ := grd hf
            refine go_get rfl rfl rfl h21 ?_
            rw [show am_rf true (wi σ 29 ((12 * (gi σ x1 0)) + x2).toNatClampNeg (am_nr 4 z11)) q16 0 0 = .int (gi (wi σ 29 ((12 * (gi σ x1 0)) + x2).toNatClampNeg (am_nr 4 z11)) q16 0) from by simp [am_rf, gi, gl, wi, wl, wr]]
            by_cases h22 : (gi (wi σ 29 ((12 * (gi σ x1 0)) + x2).toNatClampNeg (am_nr 4 z11)) q16 0) ≠ 0
            · rw [if_pos h22] at hf
              refine go_it (t := 105) (f := 73) (L1 := [some (.ref 28), some (.ref x1), some (.int x2), some (.int ((12 * (gi σ x1 0)) + x2)), some (.ref q16)]) (st1 := []) (σ1 := (wi σ 29 ((12 * (gi σ x1 0)) + x2).toNatClampNeg (am_nr 4 z11))) rfl h22 ?_
              refine go_e (L1 := [some (.ref 28), some (.ref x1), some (.int x2), none, none]) rfl rfl ?_
              exact fX2_goes_J105_ok _ _ _ _ hrec2 _ hf
            · rw [if_neg h22] at hf
              refine go_if (t := 105) (f := 73) (L1 := [some (.ref 28), some (.ref x1), some (.int x2), some (.int ((12 * (gi σ x1 0)) + x2)), some (.ref q16)]) (st1 := []) (σ1 := (wi σ 29 ((12 * (gi σ x1 0)) + x2).toNatClampNeg (am_nr 4 z11))) rfl h22 ?_
              refine go_n 1 (f := (75, [some (.ref 28), some (.ref x1), some (.int x2), some (.int ((12 * (gi σ x1 0)) + x2)), some (.ref q16)], [.ref q16], (wi σ 29 ((12 * (gi σ x1 0)) + x2).toNatClampNeg (am_nr 4 z11)))) rfl ?_
              obtain ⟨h23, hf⟩ := grd hf
              refine go_get rfl rfl rfl h23 ?_
              rw [show am_rf true (wi σ 29 ((12 * (gi σ x1 0)) + x2).toNatClampNeg (am_nr 4 z11)) q16 1 0 = .int (gi (wi σ 29 ((12 * (gi σ x1 0)) + x2).toNatClampNeg (am_nr 4 z11)) q16 1) from by simp [am_rf, gi, gl, wi, wl, wr]]
              refine go_n 1 (f := (79, [some (.ref 28), some (.ref x1), some (.int x2), some (.int ((12 * (gi σ x1 0)) + x2)), some (.ref q16)], [.ref x1, .int (gi (wi σ 29 ((12 * (gi σ x1 0)) + x2).toNatClampNeg (am_nr 4 z11)) q16 1)], (wi σ 29 ((12 * (gi σ x1 0)) + x2).toNatClampNeg (am_nr 4 z11)))) rfl ?_
              obtain ⟨h24, hf⟩ := grd hf
              refine go_get rfl rfl rfl h24 ?_
              rw [show am_rf true (wi σ 29 ((12 * (gi σ x1 0)) + x2).toNatClampNeg (am_nr 4 z11)) x1 0 0 = .int (gi (wi σ 29 ((12 * (gi σ x1 0)) + x2).toNatClampNeg (am_nr 4 z11)) x1 0) from by simp [am_rf, gi, gl, wi, wl, wr]]
              by_cases h25 : (gi (wi σ 29 ((12 * (gi σ x1 0)) + x2).toNatClampNeg (am_nr 4 z11)) x1 0) ≤ (gi (wi σ 29 ((12 * (gi σ x1 0)) + x2).toNatClampNeg (am_nr 4 z11)) q16 1)
              · rw [if_pos h25] at hf
                refine go_it (t := 105) (f := 85) (L1 := [some (.ref 28), some (.ref x1), some (.int x2), some (.int ((12 * (gi σ x1 0)) + x2)), some (.ref q16)]) (st1 := []) (σ1 := (wi σ 29 ((12 * (gi σ x1 0)) + x2).toNatClampNeg (am_nr 4 z11))) rfl h25 ?_
                refine go_e (L1 := [some (.ref 28), some (.ref x1), some (.int x2), none, none]) rfl rfl ?_
                exact fX2_goes_J105_ok _ _ _ _ hrec2 _ hf
              · rw [if_neg h25] at hf
                refine go_if (t := 105) (f := 85) (L1 := [some (.ref 28), some (.ref x1), some (.int x2), some (.int ((12 * (gi σ x1 0)) + x2)), some (.ref q16)]) (st1 := []) (σ1 := (wi σ 29 ((12 * (gi σ x1 0)) + x2).toNatClampNeg (am_nr 4 z11))) rfl h25 ?_
                refine go_n 4 (f := (93, [some (.ref 28), some (.ref x1), some (.int x2), some (.int ((12 * (gi σ x1 0)) + x2)), some (.ref q16)], [.ref q16, .int 12, .ref 30], (wi σ 29 ((12 * (gi σ x1 0)) + x2).toNatClampNeg (am_nr 4 z11)))) rfl ?_
                obtain ⟨h26, hf⟩ := grd hf
                refine go_get rfl rfl rfl h26 ?_
                rw [show am_rf true (wi σ 29 ((12 * (gi σ x1 0)) + x2).toNatClampNeg (am_nr 4 z11)) q16 1 0 = .int (gi (wi σ 29 ((12 * (gi σ x1 0)) + x2).toNatClampNeg (am_nr 4 z11)) q16 1) from by simp [am_rf, gi, gl, wi, wl, wr]]
                refine go_n 2 (f := (99, [some (.ref 28), some (.ref x1), some (.int x2), some (.int ((12 * (gi σ x1 0)) + x2)), some (.ref q16)], [.ref q16, .int (12 * (gi (wi σ 29 ((12 * (gi σ x1 0)) + x2).toNatClampNeg (am_nr 4 z11)) q16 1)), .ref 30], (wi σ 29 ((12 * (gi σ x1 0)) + x2).toNatClampNeg (am_nr 4 z11)))) rfl ?_
                obtain ⟨h27, hf⟩ := grd hf
                refine go_get rfl rfl rfl h27 ?_
                rw [show am_rf true (wi σ 29 ((12 * (gi σ x1 0)) + x2).toNatClampNeg (am_nr 4 z11)) q16 2 0 = .int (gi (wi σ 29 ((12 * (gi σ x1 0)) + x2).toNatClampNeg (am_nr 4 z11)) q16 2) from by simp [am_rf, gi, gl, wi, wl, wr]]
                refine go_n 2 (f := (104, [some (.ref 28), some (.ref x1), some (.int x2), some (.int ((12 * (gi σ x1 0)) + x2)), some (.ref q16)], [.int 1, .int ((12 * (gi (wi σ 29 ((12 * (gi σ x1 0)) + x2).toNatClampNeg (am_nr 4 z11)) q16 1)) + (gi (wi σ 29 ((12 * (gi σ x1 0)) + x2).toNatClampNeg (am_nr 4 z11)) q16 2)), .ref 30], (wi σ 29 ((12 * (gi σ x1 0)) + x2).toNatClampNeg (am_nr 4 z11)))) rfl ?_
                obtain ⟨h28, hf⟩ := grd hf
                refine go_bast rfl rfl (Or.inr rfl) h28 ?_
                refine go_e (L1 := [some (.ref 28), some (.ref x1), some (.int x2), none, none]) rfl rfl ?_
                exact fX2_goes_J105_ok _ _ _ _ hrec2 _ hf
        · by_cases h10 : (gi σ 30 ((12 * (gi σ x1 0)) + x2).toNatClampNeg) ≠ 0
          · refine go_it (t := 41) (f := 37) (L1 := [some (.ref 28), some (.ref x1), some (.int x2), some (.int ((12 * (gi σ x1 0)) + x2)), none]) (st1 := [.int ((12 * (gi σ x1 0)) + x2), .ref 29]) (σ1 := σ) rfl h10 ?_
            refine go_n 1 (f := (42, [some (.ref 28), some (.ref x1), some (.int x2), some (.int ((12 * (gi σ x1 0)) + x2)), none], [.int 0, .int ((12 * (gi σ x1 0)) + x2), .ref 29], σ)) rfl ?_
            refine go_e (L1 := [some (.ref 28), some (.ref x1), some (.int x2), some (.int ((12 * (gi σ x1 0)) + x2)), none]) rfl rfl ?_
            simp only [if_pos h10] at hJ29
            first | exact hJ29 | (simp only [if_pos h10]; exact hJ29)
          · refine go_if (t := 41) (f := 37) (L1 := [some (.ref 28), some (.ref x1), some (.int x2), some (.int ((12 * (gi σ x1 0)) + x2)), none]) (st1 := [.int ((12 * (gi σ x1 0)) + x2), .ref 29]) (σ1 := σ) rfl h10 ?_
            refine go_n 2 (f := (42, [some (.ref 28), some (.ref x1), some (.int x2), some (.int ((12 * (gi σ x1 0)) + x2)), none], [.int 1, .int ((12 * (gi σ x1 0)) + x2), .ref 29], σ)) rfl ?_
            refine go_e (L1 := [some (.ref 28), some (.ref x1), some (.int x2), some (.int ((12 * (gi σ x1 0)) + x2)), none]) rfl rfl ?_
            simp only [if_neg h10] at hJ29
            first | exact hJ29 | (simp only [if_neg h10]; exact hJ29)
def fX2_goes (x1 : Nat) (σ : Sg) : Option Sg :=
  lp (fX2_goes_L2 x1 ) N0 (0, σ)
set_option maxHeartbeats 1500000 in
theorem fX2_goes_ok (x1 : Nat) (σ : Sg) (r : Sg) (hf : fX2_goes x1 σ = some r) : Cl true 3 8194 [.ref 28, .ref x1] σ (.inl none, r) := by
  refine ⟨iX2_goes, rfl, Nat.le_of_ble_eq_true rfl, Nat.le_of_ble_eq_true rfl, ?_⟩
  show Go true 3 iX2_goes (0, [some (.ref 28), some (.ref x1), none, none, none], [], σ) (.inl none, r)
  unfold fX2_goes at hf
  refine go_n 2 (f := (2, [some (.ref 28), some (.ref x1), some (.int 0), none, none], [], σ)) rfl ?_
  exact fX2_goes_L2_ok _   N0 _ _ _ hf
/-! OldWeather$Pairs.held(I)I -/
def fX5_held_J59 (x1 : Int32) (x2 : Int32) (x3 : Int32) (rec4 : (Int32 × Int32) → Option Int32) (σ : Sg) : Option Int32 :=
  rec4 (x2, (x3 + 1))
set_option maxHeartbeats 1500000 in
theorem fX5_held_J59_ok (x1 : Int32) (x2 : Int32) (x3 : Int32) (rec4 : (Int32 × Int32) → Option Int32) (σ : Sg) (hrec4 : ∀ (y2 : Int32) (y3 : Int32) (r : Int32), rec4 (y2, y3) = some r → Go true 1 iX5_held (4, [some (.ref 35), some (.int x1), some (.int y2), some (.int y3)], [], σ) (.inl (some (.int r)), σ)) (r : Int32) (hf : fX5_held_J59 x1 x2 x3 rec4 σ = some r) : Go true 1 iX5_held (59, [some (.ref 35), some (.int x1), some (.int x2), some (.int x3)], [], σ) (.inl (some (.int r)), σ) := by
  unfold fX5_held_J59 at hf
  refine go_n 2 (f := (4, [some (.ref 35), some (.int x1), some (.int x2), some (.int (x3 + 1))], [], σ)) rfl ?_
  exact hrec4 _ _ _ hf
def fX5_held_L4 (x1 : Int32) (σ : Sg)  (rec4 : (Int32 × Int32) → Option Int32) (s : Int32 × Int32) : Option Int32 :=
  match s with
  | (x2, x3) => if (gi σ 35 5) ≤ x3 then some x2 else if inb x3 200 then if (gi σ 37 x3.toNatClampNeg) ≠ x1 then fX5_held_J59 x1 x2 x3 rec4 σ else (fX5_end x1 0 x3 σ).bind fun q4 => if inb x3 200 then if (gl σ 38 x3.toNatClampNeg) < q4 then fX5_held_J59 x1 x2 x3 rec4 σ else if inb x3 200 then (fX5_end x1 1 x3 σ).bind fun q9 => ((fun (z12 : Int32) => rec4 (z12, (x3 + 1))) (if q9 < (gl σ 38 x3.toNatClampNeg) then x2 else (x2 + 1))) else none else none else none
set_option maxHeartbeats 1500000 in
theorem fX5_held_L4_ok (x1 : Int32) (σ : Sg)   : ∀ (n : Nat) (x2 : Int32) (x3 : Int32) (r : Int32), lp (fX5_held_L4 x1 σ ) n (x2, x3) = some r → Go true 1 iX5_held (4, [some (.ref 35), some (.int x1), some (.int x2), some (.int x3)], [], σ) (.inl (some (.int r)), σ) := by
  intro n
  induction n with
  | zero => intro x2 x3 r hf; cases hf
  | succ n ih =>
    intro x2 x3 r hf
    have hf : fX5_held_L4 x1 σ  (lp (fX5_held_L4 x1 σ ) n) (x2, x3) = some r := hf
    have hrec4 := ih
    generalize lp (fX5_held_L4 x1 σ ) n = rec4 at hf hrec4
    unfold fX5_held_L4 at hf
    dsimp only at hf
    refine go_n 3 (f := (9, [some (.ref 35), some (.int x1), some (.int x2), some (.int x3)], [.int (gi σ 35 5), .int x3], σ)) rfl ?_
    by_cases h1 : (gi σ 35 5) ≤ x3
    · rw [if_pos h1] at hf
      refine go_it (t := 65) (f := 12) (L1 := [some (.ref 35), some (.int x1), some (.int x2), some (.int x3)]) (st1 := []) (σ1 := σ) rfl h1 ?_
      refine go_n 1 (f := (66, [some (.ref 35), some (.int x1), some (.int x2), some (.int x3)], [.int x2], σ)) rfl ?_
      cases hf
      exact go_r rfl
    · rw [if_neg h1] at hf
      refine go_if (t := 65) (f := 12) (L1 := [some (.ref 35), some (.int x1), some (.int x2), some (.int x3)]) (st1 := []) (σ1 := σ) rfl h1 ?_
      refine go_n 3 (f := (17, [some (.ref 35), some (.int x1), some (.int x2), some (.int x3)], [.int x3, .ref 37], σ)) rfl ?_
      obtain ⟨h2, hf⟩ := grd hf
      refine go_iald rfl rfl rfl h2 ?_
      refine go_n 1 (f := (19, [some (.ref 35), some (.int x1), some (.int x2), some (.int x3)], [.int x1, .int (gi σ 37 x3.toNatClampNeg)], σ)) rfl ?_
      by_cases h3 : (gi σ 37 x3.toNatClampNeg) ≠ x1
      · rw [if_pos h3] at hf
        refine go_it (t := 59) (f := 22) (L1 := [some (.ref 35), some (.int x1), some (.int x2), some (.int x3)]) (st1 := []) (σ1 := σ) rfl h3 ?_
        exact fX5_held_J59_ok _ _ _ _ _ hrec4 _ hf
      · rw [if_neg h3] at hf
        refine go_if (t := 59) (f := 22) (L1 := [some (.ref 35), some (.int x1), some (.int x2), some (.int x3)]) (st1 := []) (σ1 := σ) rfl h3 ?_
        refine go_n 4 (f := (26, [some (.ref 35), some (.int x1), some (.int x2), some (.int x3)], [.int x3, .int 0, .int x1, .ref 35], σ)) rfl ?_
        obtain ⟨q4, h5, hf⟩ := bnd hf
        refine go_c (mid := 11524) (args := [.ref 35, .int x1, .int 0, .int x3]) (pc := 29) (L := [some (.ref 35), some (.int x1), some (.int x2), some (.int x3)]) (st := []) (σ := σ) rfl ((fX5_end_ok _ _ _ _ q4 h5).deep (Nat.le_of_ble_eq_true rfl)) ?_
        refine go_n 3 (f := (34, [some (.ref 35), some (.int x1), some (.int x2), some (.int x3)], [.int x3, .ref 38, .long q4], σ)) rfl ?_
        obtain ⟨h6, hf⟩ := grd hf
        refine go_lald rfl rfl rfl h6 ?_
        refine go_n 1 (f := (36, [some (.ref 35), some (.int x1), some (.int x2), some (.int x3)], [.int (lg_cmp q4 (gl σ 38 x3.toNatClampNeg))], σ)) rfl ?_
        by_cases h7 : (gl σ 38 x3.toNatClampNeg) < q4
        · rw [if_pos h7] at hf
          refine go_it (t := 59) (f := 39) (L1 := [some (.ref 35), some (.int x1), some (.int x2), some (.int x3)]) (st1 := []) (σ1 := σ) rfl ((lgc_gt q4 (gl σ 38 x3.toNatClampNeg)).mpr h7) ?_
          exact fX5_held_J59_ok _ _ _ _ _ hrec4 _ hf
        · rw [if_neg h7] at hf
          refine go_if (t := 59) (f := 39) (L1 := [some (.ref 35), some (.int x1), some (.int x2), some (.int x3)]) (st1 := []) (σ1 := σ) rfl (fun q => h7 ((lgc_gt q4 (gl σ 38 x3.toNatClampNeg)).mp q)) ?_
          refine go_n 3 (f := (44, [some (.ref 35), some (.int x1), some (.int x2), some (.int x3)], [.int x3, .ref 38], σ)) rfl ?_
          obtain ⟨h8, hf⟩ := grd hf
          refine go_lald rfl rfl rfl h8 ?_
          refine go_n 4 (f := (49, [some (.ref 35), some (.int x1), some (.int x2), some (.int x3)], [.int x3, .int 1, .int x1, .ref 35, .long (gl σ 38 x3.toNatClampNeg)], σ)) rfl ?_
          obtain ⟨q9, h10, hf⟩ := bnd hf
          refine go_c (mid := 11524) (args := [.ref 35, .int x1, .int 1, .int x3]) (pc := 52) (L := [some (.ref 35), some (.int x1), some (.int x2), some (.int x3)]) (st := [.long (gl σ 38 x3.toNatClampNeg)]) (σ := σ) rfl ((fX5_end_ok _ _ _ _ q9 h10).deep (Nat.le_of_ble_eq_true rfl)) ?_
          refine go_n 1 (f := (53, [some (.ref 35), some (.int x1), some (.int x2), some (.int x3)], [.int (lg_cmp (gl σ 38 x3.toNatClampNeg) q9)], σ)) rfl ?_
          refine go_m (f := (59, [some (.ref 35), some (.int x1), some (.int (if q9 < (gl σ 38 x3.toNatClampNeg) then x2 else (x2 + 1))), some (.int x3)], [], σ)) ?_ (fun hJ13 => ?_)
          · generalize hz12 : (if q9 < (gl σ 38 x3.toNatClampNeg) then x2 else (x2 + 1)) = z12 at hf ⊢
            try dsimp only at hf
            refine go_n 2 (f := (4, [some (.ref 35), some (.int x1), some (.int z12), some (.int (x3 + 1))], [], σ)) rfl ?_
            exact hrec4 _ _ _ hf
          · by_cases h11 : q9 < (gl σ 38 x3.toNatClampNeg)
            · refine go_it (t := 59) (f := 56) (L1 := [some (.ref 35), some (.int x1), some (.int x2), some (.int x3)]) (st1 := []) (σ1 := σ) rfl ((lgc_gt (gl σ 38 x3.toNatClampNeg) q9).mpr h11) ?_
              simp only [if_pos h11] at hJ13
              first | exact hJ13 | (simp only [if_pos h11]; exact hJ13)
            · refine go_if (t := 59) (f := 56) (L1 := [some (.ref 35), some (.int x1), some (.int x2), some (.int x3)]) (st1 := []) (σ1 := σ) rfl (fun q => h11 ((lgc_gt (gl σ 38 x3.toNatClampNeg) q9).mp q)) ?_
              refine go_n 1 (f := (59, [some (.ref 35), some (.int x1), some (.int (x2 + 1)), some (.int x3)], [], σ)) rfl ?_
              simp only [if_neg h11] at hJ13
              first | exact hJ13 | (simp only [if_neg h11]; exact hJ13)
def fX5_held (x1 : Int32) (σ : Sg) : Option Int32 :=
  lp (fX5_held_L4 x1 σ ) N0 (0, 0)
set_option maxHeartbeats 1500000 in
theorem fX5_held_ok (x1 : Int32) (σ : Sg) (r : Int32) (hf : fX5_held x1 σ = some r) : Cl true 1 11523 [.ref 35, .int x1] σ (.inl (some (.int r)), σ) := by
  refine ⟨iX5_held, rfl, Nat.le_of_ble_eq_true rfl, Nat.le_of_ble_eq_true rfl, ?_⟩
  show Go true 1 iX5_held (0, [some (.ref 35), some (.int x1), none, none], [], σ) (.inl (some (.int r)), σ)
  unfold fX5_held at hf
  refine go_n 4 (f := (4, [some (.ref 35), some (.int x1), some (.int 0), some (.int 0)], [], σ)) rfl ?_
  exact fX5_held_L4_ok _ _   N0 _ _ _ hf
/-! OldWeather$Desk.sharesOf(III)I -/
def fX6_sharesOf_J92 (x1 : Int32) (x2 : Int32) (x3 : Int32) (x4 : Int32) (x5 : Int32) (rec6 : (Int32 × Int32) → Option Int32) (σ : Sg) : Option Int32 :=
  rec6 (x4, (x5 + 1))
set_option maxHeartbeats 1500000 in
theorem fX6_sharesOf_J92_ok (x1 : Int32) (x2 : Int32) (x3 : Int32) (x4 : Int32) (x5 : Int32) (rec6 : (Int32 × Int32) → Option Int32) (σ : Sg) (hrec6 : ∀ (y4 : Int32) (y5 : Int32) (r : Int32), rec6 (y4, y5) = some r → Go true 3 iX6_sharesOf (6, [some (.ref 39), some (.int x1), some (.int x2), some (.int x3), some (.int y4), some (.int y5), none], [], σ) (.inl (some (.int r)), σ)) (r : Int32) (hf : fX6_sharesOf_J92 x1 x2 x3 x4 x5 rec6 σ = some r) : Go true 3 iX6_sharesOf (92, [some (.ref 39), some (.int x1), some (.int x2), some (.int x3), some (.int x4), some (.int x5), none], [], σ) (.inl (some (.int r)), σ) := by
  unfold fX6_sharesOf_J92 at hf
  refine go_n 2 (f := (6, [some (.ref 39), some (.int x1), some (.int x2), some (.int x3), some (.int x4), some (.int (x5 + 1)), none], [], σ)) rfl ?_
  exact hrec6 _ _ _ hf
def fX6_sharesOf_J71 (x1 : Int32) (x2 : Int32) (x3 : Int32) (x4 : Int32) (x5 : Int32) (x6 : Nat) (rec6 : (Int32 × Int32) → Option Int32) (σ : Sg) : Option Int32 :=
  if [35].elem (kk σ x6) = true then if (gi σ x6 0) ≠ x2 then fX6_sharesOf_J92 x1 x2 x3 x4 x5 rec6 σ else if [35].elem (kk σ x6) = true then ((fun (z15 : Int32) => rec6 (z15, (x5 + 1))) (if (gi σ x6 1) ≠ x1 then x4 else (x4 + 1))) else none else none
set_option maxHeartbeats 1500000 in
theorem fX6_sharesOf_J71_ok (x1 : Int32) (x2 : Int32) (x3 : Int32) (x4 : Int32) (x5 : Int32) (x6 : Nat) (rec6 : (Int32 × Int32) → Option Int32) (σ : Sg) (hrec6 : ∀ (y4 : Int32) (y5 : Int32) (r : Int32), rec6 (y4, y5) = some r → Go true 3 iX6_sharesOf (6, [some (.ref 39), some (.int x1), some (.int x2), some (.int x3), some (.int y4), some (.int y5), none], [], σ) (.inl (some (.int r)), σ)) (r : Int32) (hf : fX6_sharesOf_J71 x1 x2 x3 x4 x5 x6 rec6 σ = some r) : Go true 3 iX6_sharesOf (71, [some (.ref 39), some (.int x1), some (.int x2), some (.int x3), some (.int x4), some (.int x5), some (.ref x6)], [], σ) (.inl (some (.int r)), σ) := by
  unfold fX6_sharesOf_J71 at hf
  refine go_n 1 (f := (73, [some (.ref 39), some (.int x1), some (.int x2), some (.int x3), some (.int x4), some (.int x5), some (.ref x6)], [.ref x6], σ)) rfl ?_
  obtain ⟨h11, hf⟩ := grd hf
  refine go_get rfl rfl rfl h11 ?_
  refine go_n 1 (f := (77, [some (.ref 39), some (.int x1), some (.int x2), some (.int x3), some (.int x4), some (.int x5), some (.ref x6)], [.int x2, .int (gi σ x6 0)], σ)) rfl ?_
  by_cases h12 : (gi σ x6 0) ≠ x2
  · rw [if_pos h12] at hf
    refine go_it (t := 92) (f := 80) (L1 := [some (.ref 39), some (.int x1), some (.int x2), some (.int x3), some (.int x4), some (.int x5), some (.ref x6)]) (st1 := []) (σ1 := σ) rfl h12 ?_
    refine go_e (L1 := [some (.ref 39), some (.int x1), some (.int x2), some (.int x3), some (.int x4), some (.int x5), none]) rfl rfl ?_
    exact fX6_sharesOf_J92_ok _ _ _ _ _ _ _ hrec6 _ hf
  · rw [if_neg h12] at hf
    refine go_if (t := 92) (f := 80) (L1 := [some (.ref 39), some (.int x1), some (.int x2), some (.int x3), some (.int x4), some (.int x5), some (.ref x6)]) (st1 := []) (σ1 := σ) rfl h12 ?_
    refine go_n 1 (f := (82, [some (.ref 39), some (.int x1), some (.int x2), some (.int x3), some (.int x4), some (.int x5), some (.ref x6)], [.ref x6], σ)) rfl ?_
    obtain ⟨h13, hf⟩ := grd hf
    refine go_get rfl rfl rfl h13 ?_
    refine go_n 1 (f := (86, [some (.ref 39), some (.int x1), some (.int x2), some (.int x3), some (.int x4), some (.int x5), some (.ref x6)], [.int x1, .int (gi σ x6 1)], σ)) rfl ?_
    refine go_m (f := (92, [some (.ref 39), some (.int x1), some (.int x2), some (.int x3), some (.int (if (gi σ x6 1) ≠ x1 then x4 else (x4 + 1))), some (.int x5), none], [], σ)) ?_ (fun hJ16 => ?_)
    · generalize hz15 : (if (gi σ x6 1) ≠ x1 then x4 else (x4 + 1)) = z15 at hf ⊢
      try dsimp only at hf
      refine go_n 2 (f := (6, [some (.ref 39), some (.int x1), some (.int x2), some (.int x3), some (.int z15), some (.int (x5 + 1)), none], [], σ)) rfl ?_
      exact hrec6 _ _ _ hf
    · by_cases h14 : (gi σ x6 1) ≠ x1
      · refine go_it (t := 92) (f := 89) (L1 := [some (.ref 39), some (.int x1), some (.int x2), some (.int x3), some (.int x4), some (.int x5), some (.ref x6)]) (st1 := []) (σ1 := σ) rfl h14 ?_
        refine go_e (L1 := [some (.ref 39), some (.int x1), some (.int x2), some (.int x3), some (.int x4), some (.int x5), none]) rfl rfl ?_
        simp only [if_pos h14] at hJ16
        first | exact hJ16 | (simp only [if_pos h14]; exact hJ16)
      · refine go_if (t := 92) (f := 89) (L1 := [some (.ref 39), some (.int x1), some (.int x2), some (.int x3), some (.int x4), some (.int x5), some (.ref x6)]) (st1 := []) (σ1 := σ) rfl h14 ?_
        refine go_e (L1 := [some (.ref 39), some (.int x1), some (.int x2), some (.int x3), some (.int x4), some (.int x5), none]) rfl rfl ?_
        refine go_n 1 (f := (92, [some (.ref 39), some (.int x1), some (.int x2), some (.int x3), some (.int (x4 + 1)), some (.int x5), none], [], σ)) rfl ?_
        refine go_e (L1 := [some (.ref 39), some (.int x1), some (.int x2), some (.int x3), some (.int (x4 + 1)), some (.int x5), none]) rfl rfl ?_
        simp only [if_neg h14] at hJ16
        first | exact hJ16 | (simp only [if_neg h14]; exact hJ16)
def fX6_sharesOf_J89 (x1 : Int32) (x2 : Int32) (x3 : Int32) (x4 : Int32) (x5 : Int32) (rec6 : (Int32 × Int32) → Option Int32) (σ : Sg) : Option Int32 :=
  fX6_sharesOf_J92 x1 x2 x3 (x4 + 1) x5 rec6 σ
set_option maxHeartbeats 1500000 in
theorem fX6_sharesOf_J89_ok (x1 : Int32) (x2 : Int32) (x3 : Int32) (x4 : Int32) (x5 : Int32) (rec6 : (Int32 × Int32) → Option Int32) (σ : Sg) (hrec6 : ∀ (y4 : Int32) (y5 : Int32) (r : Int32), rec6 (y4, y5) = some r → Go true 3 iX6_sharesOf (6, [some (.ref 39), some (.int x1), some (.int x2), some (.int x3), some (.int y4), some (.int y5), none], [], σ) (.inl (some (.int r)), σ)) (r : Int32) (hf : fX6_sharesOf_J89 x1 x2 x3 x4 x5 rec6 σ = some r) : Go true 3 iX6_sharesOf (89, [some (.ref 39), some (.int x1), some (.int x2), some (.int x3), some (.int x4), some (.int x5), none], [], σ) (.inl (some (.int r)), σ) := by
  unfold fX6_sharesOf_J89 at hf
  refine go_n 1 (f := (92, [some (.ref 39), some (.int x1), some (.int x2), some (.int x3), some (.int (x4 + 1)), some (.int x5), none], [], σ)) rfl ?_
  exact fX6_sharesOf_J92_ok _ _ _ _ _ _ _ hrec6 _ hf
def fX6_sharesOf_L6 (x1 : Int32) (x2 : Int32) (x3 : Int32) (σ : Sg)  (rec6 : (Int32 × Int32) → Option Int32) (s : Int32 × Int32) : Option Int32 :=
  match s with
  | (x4, x5) => (fJ2_size 6 σ).bind fun q1 => if q1 ≤ x5 then some x4 else (fJ2_get 6 x5 σ).bind fun q4 => if [35].elem (kk σ q4) = true then if [35].elem (kk σ q4) = true then if x3 < (gi σ q4 2) then fX6_sharesOf_J92 x1 x2 x3 x4 x5 rec6 σ else if [35].elem (kk σ q4) = true then if (gi σ q4 0) ≠ x1 then fX6_sharesOf_J71 x1 x2 x3 x4 x5 q4 rec6 σ else if [35].elem (kk σ q4) = true then if (gi σ q4 1) = x2 then fX6_sharesOf_J89 x1 x2 x3 x4 x5 rec6 σ else fX6_sharesOf_J71 x1 x2 x3 x4 x5 q4 rec6 σ else none else none else none else none
set_option maxHeartbeats 1500000 in
theorem fX6_sharesOf_L6_ok (x1 : Int32) (x2 : Int32) (x3 : Int32) (σ : Sg)   : ∀ (n : Nat) (x4 : Int32) (x5 : Int32) (r : Int32), lp (fX6_sharesOf_L6 x1 x2 x3 σ ) n (x4, x5) = some r → Go true 3 iX6_sharesOf (6, [some (.ref 39), some (.int x1), some (.int x2), some (.int x3), some (.int x4), some (.int x5), none], [], σ) (.inl (some (.int r)), σ) := by
  intro n
  induction n with
  | zero => intro x4 x5 r hf; cases hf
  | succ n ih =>
    intro x4 x5 r hf
    have hf : fX6_sharesOf_L6 x1 x2 x3 σ  (lp (fX6_sharesOf_L6 x1 x2 x3 σ ) n) (x4, x5) = some r := hf
    have hrec6 := ih
    generalize lp (fX6_sharesOf_L6 x1 x2 x3 σ ) n = rec6 at hf hrec6
    unfold fX6_sharesOf_L6 at hf
    dsimp only at hf
    refine go_n 5 (f := (18, [some (.ref 39), some (.int x1), some (.int x2), some (.int x3), some (.int x4), some (.int x5), none], [.ref 6, .int x5], σ)) rfl ?_
    obtain ⟨q1, h2, hf⟩ := bnd hf
    refine go_c (mid := 2821) (args := [.ref 6]) (pc := 21) (L := [some (.ref 39), some (.int x1), some (.int x2), some (.int x3), some (.int x4), some (.int x5), none]) (st := [.int x5]) (σ := σ) rfl ((fJ2_size_ok _ _ q1 h2).deep (Nat.le_of_ble_eq_true rfl)) ?_
    by_cases h3 : q1 ≤ x5
    · rw [if_pos h3] at hf
      refine go_it (t := 98) (f := 24) (L1 := [some (.ref 39), some (.int x1), some (.int x2), some (.int x3), some (.int x4), some (.int x5), none]) (st1 := []) (σ1 := σ) rfl h3 ?_
      refine go_n 1 (f := (100, [some (.ref 39), some (.int x1), some (.int x2), some (.int x3), some (.int x4), some (.int x5), none], [.int x4], σ)) rfl ?_
      cases hf
      exact go_r rfl
    · rw [if_neg h3] at hf
      refine go_if (t := 98) (f := 24) (L1 := [some (.ref 39), some (.int x1), some (.int x2), some (.int x3), some (.int x4), some (.int x5), none]) (st1 := []) (σ1 := σ) rfl h3 ?_
      refine go_n 5 (f := (36, [some (.ref 39), some (.int x1), some (.int x2), some (.int x3), some (.int x4), some (.int x5), none], [.int x5, .ref 6], σ)) rfl ?_
      obtain ⟨q4, h5, hf⟩ := bnd hf
      refine go_c (mid := 2825) (args := [.ref 6, .int x5]) (pc := 39) (L := [some (.ref 39), some (.int x1), some (.int x2), some (.int x3), some (.int x4), some (.int x5), none]) (st := []) (σ := σ) rfl ((fJ2_get_ok _ _ _ q4 h5).deep (Nat.le_of_ble_eq_true rfl)) ?_
      obtain ⟨h6, hf⟩ := grd hf
      refine go_cast rfl rfl rfl h6 ?_
      refine go_n 2 (f := (46, [some (.ref 39), some (.int x1), some (.int x2), some (.int x3), some (.int x4), some (.int x5), some (.ref q4)], [.ref q4], σ)) rfl ?_
      obtain ⟨h7, hf⟩ := grd hf
      refine go_get rfl rfl rfl h7 ?_
      refine go_n 1 (f := (50, [some (.ref 39), some (.int x1), some (.int x2), some (.int x3), some (.int x4), some (.int x5), some (.ref q4)], [.int x3, .int (gi σ q4 2)], σ)) rfl ?_
      by_cases h8 : x3 < (gi σ q4 2)
      · rw [if_pos h8] at hf
        refine go_it (t := 92) (f := 53) (L1 := [some (.ref 39), some (.int x1), some (.int x2), some (.int x3), some (.int x4), some (.int x5), some (.ref q4)]) (st1 := []) (σ1 := σ) rfl h8 ?_
        refine go_e (L1 := [some (.ref 39), some (.int x1), some (.int x2), some (.int x3), some (.int x4), some (.int x5), none]) rfl rfl ?_
        exact fX6_sharesOf_J92_ok _ _ _ _ _ _ _ hrec6 _ hf
      · rw [if_neg h8] at hf
        refine go_if (t := 92) (f := 53) (L1 := [some (.ref 39), some (.int x1), some (.int x2), some (.int x3), some (.int x4), some (.int x5), some (.ref q4)]) (st1 := []) (σ1 := σ) rfl h8 ?_
        refine go_n 1 (f := (55, [some (.ref 39), some (.int x1), some (.int x2), some (.int x3), some (.int x4), some (.int x5), some (.ref q4)], [.ref q4], σ)) rfl ?_
        obtain ⟨h9, hf⟩ := grd hf
        refine go_get rfl rfl rfl h9 ?_
        refine go_n 1 (f := (59, [some (.ref 39), some (.int x1), some (.int x2), some (.int x3), some (.int x4), some (.int x5), some (.ref q4)], [.int x1, .int (gi σ q4 0)], σ)) rfl ?_
        by_cases h10 : (gi σ q4 0) ≠ x1
        · rw [if_pos h10] at hf
          refine go_it (t := 71) (f := 62) (L1 := [some (.ref 39), some (.int x1), some (.int x2), some (.int x3), some (.int x4), some (.int x5), some (.ref q4)]) (st1 := []) (σ1 := σ) rfl h10 ?_
          exact fX6_sharesOf_J71_ok _ _ _ _ _ _ _ _ hrec6 _ hf
        · rw [if_neg h10] at hf
          refine go_if (t := 71) (f := 62) (L1 := [some (.ref 39), some (.int x1), some (.int x2), some (.int x3), some (.int x4), some (.int x5), some (.ref q4)]) (st1 := []) (σ1 := σ) rfl h10 ?_
          refine go_n 1 (f := (64, [some (.ref 39), some (.int x1), some (.int x2), some (.int x3), some (.int x4), some (.int x5), some (.ref q4)], [.ref q4], σ)) rfl ?_
          obtain ⟨h17, hf⟩ := grd hf
          refine go_get rfl rfl rfl h17 ?_
          refine go_n 1 (f := (68, [some (.ref 39), some (.int x1), some (.int x2), some (.int x3), some (.int x4), some (.int x5), some (.ref q4)], [.int x2, .int (gi σ q4 1)], σ)) rfl ?_
          by_cases h18 : (gi σ q4 1) = x2
          · rw [if_pos h18] at hf
            refine go_it (t := 89) (f := 71) (L1 := [some (.ref 39), some (.int x1), some (.int x2), some (.int x3), some (.int x4), some (.int x5), some (.ref q4)]) (st1 := []) (σ1 := σ) rfl h18 ?_
            refine go_e (L1 := [some (.ref 39), some (.int x1), some (.int x2), some (.int x3), some (.int x4), some (.int x5), none]) rfl rfl ?_
            exact fX6_sharesOf_J89_ok _ _ _ _ _ _ _ hrec6 _ hf
          · rw [if_neg h18] at hf
            refine go_if (t := 89) (f := 71) (L1 := [some (.ref 39), some (.int x1), some (.int x2), some (.int x3), some (.int x4), some (.int x5), some (.ref q4)]) (st1 := []) (σ1 := σ) rfl h18 ?_
            exact fX6_sharesOf_J71_ok _ _ _ _ _ _ _ _ hrec6 _ hf
def fX6_sharesOf (x1 : Int32) (x2 : Int32) (x3 : Int32) (σ : Sg) : Option Int32 :=
  lp (fX6_sharesOf_L6 x1 x2 x3 σ ) N0 (0, 0)
set_option maxHeartbeats 1500000 in
theorem fX6_sharesOf_ok (x1 : Int32) (x2 : Int32) (x3 : Int32) (σ : Sg) (r : Int32) (hf : fX6_sharesOf x1 x2 x3 σ = some r) : Cl true 3 11779 [.ref 39, .int x1, .int x2, .int x3] σ (.inl (some (.int r)), σ) := by
  refine ⟨iX6_sharesOf, rfl, Nat.le_of_ble_eq_true rfl, Nat.le_of_ble_eq_true rfl, ?_⟩
  show Go true 3 iX6_sharesOf (0, [some (.ref 39), some (.int x1), some (.int x2), some (.int x3), none, none, none], [], σ) (.inl (some (.int r)), σ)
  unfold fX6_sharesOf at hf
  refine go_n 4 (f := (6, [some (.ref 39), some (.int x1), some (.int x2), some (.int x3), some (.int 0), some (.int 0), none], [], σ)) rfl ?_
  exact fX6_sharesOf_L6_ok _ _ _ _   N0 _ _ _ hf
/-! OldWeather$Desk.isStopped(I)Z -/
def fX6_isStopped (x1 : Int32) (σ : Sg) : Option Int32 :=
  (fJ2_get 2 x1 σ).bind fun q1 => if [17, 18, 19, 20, 21].elem (kk σ q1) = true then if [17, 18, 19, 20, 21].elem (kk σ q1) = true then if inb (gi σ q1 1) 16 then if (gi σ 17 (gi σ q1 1).toNatClampNeg) = (-1) then some 0 else if inb x1 200 then ((fun (z9 : Int32) => some z9) ((if (gi σ 25 x1.toNatClampNeg) ≤ (gi σ 17 (gi σ q1 1).toNatClampNeg) then 0 else 1) : Int32)) else none else none else none else none
set_option maxHeartbeats 1500000 in
theorem fX6_isStopped_ok (x1 : Int32) (σ : Sg) (r : Int32) (hf : fX6_isStopped x1 σ = some r) : Cl true 3 11781 [.ref 39, .int x1] σ (.inl (some (.int r)), σ) := by
  refine ⟨iX6_isStopped, rfl, Nat.le_of_ble_eq_true rfl, Nat.le_of_ble_eq_true rfl, ?_⟩
  show Go true 3 iX6_isStopped (0, [some (.ref 39), some (.int x1), none], [], σ) (.inl (some (.int r)), σ)
  unfold fX6_isStopped at hf
  refine go_n 9 (f := (21, [some (.ref 39), some (.int x1), none], [.int x1, .ref 2, .ref 17], σ)) rfl ?_
  obtain ⟨q1, h2, hf⟩ := bnd hf
  refine go_c (mid := 2825) (args := [.ref 2, .int x1]) (pc := 24) (L := [some (.ref 39), some (.int x1), none]) (st := [.ref 17]) (σ := σ) rfl ((fJ2_get_ok _ _ _ q1 h2).deep (Nat.le_of_ble_eq_true rfl)) ?_
  obtain ⟨h3, hf⟩ := grd hf
  refine go_cast rfl rfl rfl h3 ?_
  obtain ⟨h4, hf⟩ := grd hf
  refine go_get rfl rfl rfl h4 ?_
  obtain ⟨h5, hf⟩ := grd hf
  refine go_iald rfl rfl rfl h5 ?_
  refine go_n 3 (f := (34, [some (.ref 39), some (.int x1), some (.int (gi σ 17 (gi σ q1 1).toNatClampNeg))], [.int (-1), .int (gi σ 17 (gi σ q1 1).toNatClampNeg)], σ)) rfl ?_
  by_cases h6 : (gi σ 17 (gi σ q1 1).toNatClampNeg) = (-1)
  · rw [if_pos h6] at hf
    refine go_it (t := 54) (f := 37) (L1 := [some (.ref 39), some (.int x1), some (.int (gi σ 17 (gi σ q1 1).toNatClampNeg))]) (st1 := []) (σ1 := σ) rfl h6 ?_
    refine go_e (L1 := [none, none, none]) rfl rfl ?_
    refine go_n 1 (f := (55, [none, none, none], [.int 0], σ)) rfl ?_
    cases hf
    exact go_r rfl
  · rw [if_neg h6] at hf
    refine go_if (t := 54) (f := 37) (L1 := [some (.ref 39), some (.int x1), some (.int (gi σ 17 (gi σ q1 1).toNatClampNeg))]) (st1 := []) (σ1 := σ) rfl h6 ?_
    refine go_n 5 (f := (46, [some (.ref 39), some (.int x1), some (.int (gi σ 17 (gi σ q1 1).toNatClampNeg))], [.int x1, .ref 25, .int (gi σ 17 (gi σ q1 1).toNatClampNeg)], σ)) rfl ?_
    obtain ⟨h7, hf⟩ := grd hf
    refine go_iald rfl rfl rfl h7 ?_
    refine go_m (f := (55, [none, none, none], [.int ((if (gi σ 25 x1.toNatClampNeg) ≤ (gi σ 17 (gi σ q1 1).toNatClampNeg) then 0 else 1) : Int32)], σ)) ?_ (fun hJ10 => ?_)
    · generalize hz9 : ((if (gi σ 25 x1.toNatClampNeg) ≤ (gi σ 17 (gi σ q1 1).toNatClampNeg) then 0 else 1) : Int32) = z9 at hf ⊢
      have oz9 : am_ok 3 z9 = true := hz9 ▸ (okb rfl rfl)
      try dsimp only at hf
      cases hf
      exact go_ret rfl rfl (Or.inr (Or.inl ⟨rfl, oz9⟩))
    · by_cases h8 : (gi σ 25 x1.toNatClampNeg) ≤ (gi σ 17 (gi σ q1 1).toNatClampNeg)
      · refine go_it (t := 54) (f := 50) (L1 := [some (.ref 39), some (.int x1), some (.int (gi σ 17 (gi σ q1 1).toNatClampNeg))]) (st1 := []) (σ1 := σ) rfl h8 ?_
        refine go_e (L1 := [none, none, none]) rfl rfl ?_
        refine go_n 1 (f := (55, [none, none, none], [.int 0], σ)) rfl ?_
        refine go_e (L1 := [none, none, none]) rfl rfl ?_
        simp only [if_pos h8] at hJ10
        first | exact hJ10 | (simp only [if_pos h8]; exact hJ10)
      · refine go_if (t := 54) (f := 50) (L1 := [some (.ref 39), some (.int x1), some (.int (gi σ 17 (gi σ q1 1).toNatClampNeg))]) (st1 := []) (σ1 := σ) rfl h8 ?_
        refine go_n 2 (f := (55, [some (.ref 39), some (.int x1), some (.int (gi σ 17 (gi σ q1 1).toNatClampNeg))], [.int 1], σ)) rfl ?_
        refine go_e (L1 := [none, none, none]) rfl rfl ?_
        simp only [if_neg h8] at hJ10
        first | exact hJ10 | (simp only [if_neg h8]; exact hJ10)
/-! OldWeather$Desk.isTold(II)Z -/
def fX6_isTold_J137 (x1 : Int32) (x2 : Int32) (x3 : Int32) (x4 : Int32) (rec24 : Int32 → Option Int32) (σ : Sg) : Option Int32 :=
  rec24 (x4 + 1)
set_option maxHeartbeats 1500000 in
theorem fX6_isTold_J137_ok (x1 : Int32) (x2 : Int32) (x3 : Int32) (x4 : Int32) (rec24 : Int32 → Option Int32) (σ : Sg) (hrec24 : ∀ (y4 : Int32) (r : Int32), rec24 y4 = some r → Go true 3 iX6_isTold (24, [some (.ref 39), some (.int x1), some (.int x2), some (.int x3), some (.int y4), none], [], σ) (.inl (some (.int r)), σ)) (r : Int32) (hf : fX6_isTold_J137 x1 x2 x3 x4 rec24 σ = some r) : Go true 3 iX6_isTold (137, [some (.ref 39), some (.int x1), some (.int x2), some (.int x3), some (.int x4), none], [], σ) (.inl (some (.int r)), σ) := by
  unfold fX6_isTold_J137 at hf
  refine go_n 2 (f := (24, [some (.ref 39), some (.int x1), some (.int x2), some (.int x3), some (.int (x4 + 1)), none], [], σ)) rfl ?_
  exact hrec24 _ _ hf
def fX6_isTold_L24 (x1 : Int32) (x2 : Int32) (x3 : Int32) (σ : Sg)  (rec24 : Int32 → Option Int32) (x4 : Int32) : Option Int32 :=
  if x2 ≤ x4 then some 0 else (fJ2_get 2 x4 σ).bind fun q6 => if [17, 18, 19, 20, 21].elem (kk σ q6) = true then if [17, 18, 19, 20, 21].elem (kk σ q6) = true then if x3 ≤ (gi σ q6 1) then fX6_isTold_J137 x1 x2 x3 x4 rec24 σ else if inb (gi σ q6 1) 16 then if inb x3 16 then if (gi σ 40 (gi σ q6 1).toNatClampNeg) ≠ (gi σ 40 x3.toNatClampNeg) then fX6_isTold_J137 x1 x2 x3 x4 rec24 σ else if inb (gi σ q6 1) 16 then if inb x3 16 then if (gi σ 15 (gi σ q6 1).toNatClampNeg) ≠ (gi σ 15 x3.toNatClampNeg) then fX6_isTold_J137 x1 x2 x3 x4 rec24 σ else if inb x4 200 then if (gi σ 45 x4.toNatClampNeg) = 0 then fX6_isTold_J137 x1 x2 x3 x4 rec24 σ else if inb x4 200 then if inb x1 200 then if (gi σ 25 x4.toNatClampNeg) ≠ (gi σ 25 x1.toNatClampNeg) then fX6_isTold_J137 x1 x2 x3 x4 rec24 σ else some 1 else none else none else none else none else none else none else none else none else none
set_option maxHeartbeats 1500000 in
theorem fX6_isTold_L24_ok (x1 : Int32) (x2 : Int32) (x3 : Int32) (σ : Sg)   : ∀ (n : Nat) (x4 : Int32) (r : Int32), lp (fX6_isTold_L24 x1 x2 x3 σ ) n x4 = some r → Go true 3 iX6_isTold (24, [some (.ref 39), some (.int x1), some (.int x2), some (.int x3), some (.int x4), none], [], σ) (.inl (some (.int r)), σ) := by
  intro n
  induction n with
  | zero => intro x4 r hf; cases hf
  | succ n ih =>
    intro x4 r hf
    have hf : fX6_isTold_L24 x1 x2 x3 σ  (lp (fX6_isTold_L24 x1 x2 x3 σ ) n) x4 = some r := hf
    have hrec24 := ih
    generalize lp (fX6_isTold_L24 x1 x2 x3 σ ) n = rec24 at hf hrec24
    unfold fX6_isTold_L24 at hf
    refine go_n 2 (f := (27, [some (.ref 39), some (.int x1), some (.int x2), some (.int x3), some (.int x4), none], [.int x2, .int x4], σ)) rfl ?_
    by_cases h5 : x2 ≤ x4
    · rw [if_pos h5] at hf
      refine go_it (t := 143) (f := 30) (L1 := [some (.ref 39), some (.int x1), some (.int x2), some (.int x3), some (.int x4), none]) (st1 := []) (σ1 := σ) rfl h5 ?_
      refine go_n 1 (f := (144, [some (.ref 39), some (.int x1), some (.int x2), some (.int x3), some (.int x4), none], [.int 0], σ)) rfl ?_
      cases hf
      exact go_r rfl
    · rw [if_neg h5] at hf
      refine go_if (t := 143) (f := 30) (L1 := [some (.ref 39), some (.int x1), some (.int x2), some (.int x3), some (.int x4), none]) (st1 := []) (σ1 := σ) rfl h5 ?_
      refine go_n 5 (f := (42, [some (.ref 39), some (.int x1), some (.int x2), some (.int x3), some (.int x4), none], [.int x4, .ref 2], σ)) rfl ?_
      obtain ⟨q6, h7, hf⟩ := bnd hf
      refine go_c (mid := 2825) (args := [.ref 2, .int x4]) (pc := 45) (L := [some (.ref 39), some (.int x1), some (.int x2), some (.int x3), some (.int x4), none]) (st := []) (σ := σ) rfl ((fJ2_get_ok _ _ _ q6 h7).deep (Nat.le_of_ble_eq_true rfl)) ?_
      obtain ⟨h8, hf⟩ := grd hf
      refine go_cast rfl rfl rfl h8 ?_
      obtain ⟨h9, hf⟩ := grd hf
      refine go_get rfl rfl rfl h9 ?_
      refine go_n 3 (f := (56, [some (.ref 39), some (.int x1), some (.int x2), some (.int x3), some (.int x4), some (.int (gi σ q6 1))], [.int x3, .int (gi σ q6 1)], σ)) rfl ?_
      by_cases h10 : x3 ≤ (gi σ q6 1)
      · rw [if_pos h10] at hf
        refine go_it (t := 137) (f := 59) (L1 := [some (.ref 39), some (.int x1), some (.int x2), some (.int x3), some (.int x4), some (.int (gi σ q6 1))]) (st1 := []) (σ1 := σ) rfl h10 ?_
        refine go_e (L1 := [some (.ref 39), some (.int x1), some (.int x2), some (.int x3), some (.int x4), none]) rfl rfl ?_
        exact fX6_isTold_J137_ok _ _ _ _ _ _ hrec24 _ hf
      · rw [if_neg h10] at hf
        refine go_if (t := 137) (f := 59) (L1 := [some (.ref 39), some (.int x1), some (.int x2), some (.int x3), some (.int x4), some (.int (gi σ q6 1))]) (st1 := []) (σ1 := σ) rfl h10 ?_
        refine go_n 3 (f := (65, [some (.ref 39), some (.int x1), some (.int x2), some (.int x3), some (.int x4), some (.int (gi σ q6 1))], [.int (gi σ q6 1), .ref 40], σ)) rfl ?_
        obtain ⟨h11, hf⟩ := grd hf
        refine go_iald rfl rfl rfl h11 ?_
        refine go_n 3 (f := (71, [some (.ref 39), some (.int x1), some (.int x2), some (.int x3), some (.int x4), some (.int (gi σ q6 1))], [.int x3, .ref 40, .int (gi σ 40 (gi σ q6 1).toNatClampNeg)], σ)) rfl ?_
        obtain ⟨h12, hf⟩ := grd hf
        refine go_iald rfl rfl rfl h12 ?_
        by_cases h13 : (gi σ 40 (gi σ q6 1).toNatClampNeg) ≠ (gi σ 40 x3.toNatClampNeg)
        · rw [if_pos h13] at hf
          refine go_it (t := 137) (f := 75) (L1 := [some (.ref 39), some (.int x1), some (.int x2), some (.int x3), some (.int x4), some (.int (gi σ q6 1))]) (st1 := []) (σ1 := σ) rfl h13 ?_
          refine go_e (L1 := [some (.ref 39), some (.int x1), some (.int x2), some (.int x3), some (.int x4), none]) rfl rfl ?_
          exact fX6_isTold_J137_ok _ _ _ _ _ _ hrec24 _ hf
        · rw [if_neg h13] at hf
          refine go_if (t := 137) (f := 75) (L1 := [some (.ref 39), some (.int x1), some (.int x2), some (.int x3), some (.int x4), some (.int (gi σ q6 1))]) (st1 := []) (σ1 := σ) rfl h13 ?_
          refine go_n 5 (f := (87, [some (.ref 39), some (.int x1), some (.int x2), some (.int x3), some (.int x4), some (.int (gi σ q6 1))], [.int (gi σ q6 1), .ref 15], σ)) rfl ?_
          obtain ⟨h14, hf⟩ := grd hf
          refine go_iald rfl rfl rfl h14 ?_
          refine go_n 5 (f := (99, [some (.ref 39), some (.int x1), some (.int x2), some (.int x3), some (.int x4), some (.int (gi σ q6 1))], [.int x3, .ref 15, .int (gi σ 15 (gi σ q6 1).toNatClampNeg)], σ)) rfl ?_
          obtain ⟨h15, hf⟩ := grd hf
          refine go_iald rfl rfl rfl h15 ?_
          by_cases h16 : (gi σ 15 (gi σ q6 1).toNatClampNeg) ≠ (gi σ 15 x3.toNatClampNeg)
          · rw [if_pos h16] at hf
            refine go_it (t := 137) (f := 103) (L1 := [some (.ref 39), some (.int x1), some (.int x2), some (.int x3), some (.int x4), some (.int (gi σ q6 1))]) (st1 := []) (σ1 := σ) rfl h16 ?_
            refine go_e (L1 := [some (.ref 39), some (.int x1), some (.int x2), some (.int x3), some (.int x4), none]) rfl rfl ?_
            exact fX6_isTold_J137_ok _ _ _ _ _ _ hrec24 _ hf
          · rw [if_neg h16] at hf
            refine go_if (t := 137) (f := 103) (L1 := [some (.ref 39), some (.int x1), some (.int x2), some (.int x3), some (.int x4), some (.int (gi σ q6 1))]) (st1 := []) (σ1 := σ) rfl h16 ?_
            refine go_n 3 (f := (109, [some (.ref 39), some (.int x1), some (.int x2), some (.int x3), some (.int x4), some (.int (gi σ q6 1))], [.int x4, .ref 45], σ)) rfl ?_
            obtain ⟨h17, hf⟩ := grd hf
            refine go_bald rfl rfl (Or.inr rfl) h17 ?_
            by_cases h18 : (gi σ 45 x4.toNatClampNeg) = 0
            · rw [if_pos h18] at hf
              refine go_it (t := 137) (f := 113) (L1 := [some (.ref 39), some (.int x1), some (.int x2), some (.int x3), some (.int x4), some (.int (gi σ q6 1))]) (st1 := []) (σ1 := σ) rfl h18 ?_
              refine go_e (L1 := [some (.ref 39), some (.int x1), some (.int x2), some (.int x3), some (.int x4), none]) rfl rfl ?_
              exact fX6_isTold_J137_ok _ _ _ _ _ _ hrec24 _ hf
            · rw [if_neg h18] at hf
              refine go_if (t := 137) (f := 113) (L1 := [some (.ref 39), some (.int x1), some (.int x2), some (.int x3), some (.int x4), some (.int (gi σ q6 1))]) (st1 := []) (σ1 := σ) rfl h18 ?_
              refine go_n 4 (f := (122, [some (.ref 39), some (.int x1), some (.int x2), some (.int x3), some (.int x4), some (.int (gi σ q6 1))], [.int x4, .ref 25], σ)) rfl ?_
              obtain ⟨h19, hf⟩ := grd hf
              refine go_iald rfl rfl rfl h19 ?_
              refine go_n 4 (f := (131, [some (.ref 39), some (.int x1), some (.int x2), some (.int x3), some (.int x4), some (.int (gi σ q6 1))], [.int x1, .ref 25, .int (gi σ 25 x4.toNatClampNeg)], σ)) rfl ?_
              obtain ⟨h20, hf⟩ := grd hf
              refine go_iald rfl rfl rfl h20 ?_
              by_cases h21 : (gi σ 25 x4.toNatClampNeg) ≠ (gi σ 25 x1.toNatClampNeg)
              · rw [if_pos h21] at hf
                refine go_it (t := 137) (f := 135) (L1 := [some (.ref 39), some (.int x1), some (.int x2), some (.int x3), some (.int x4), some (.int (gi σ q6 1))]) (st1 := []) (σ1 := σ) rfl h21 ?_
                refine go_e (L1 := [some (.ref 39), some (.int x1), some (.int x2), some (.int x3), some (.int x4), none]) rfl rfl ?_
                exact fX6_isTold_J137_ok _ _ _ _ _ _ hrec24 _ hf
              · rw [if_neg h21] at hf
                refine go_if (t := 137) (f := 135) (L1 := [some (.ref 39), some (.int x1), some (.int x2), some (.int x3), some (.int x4), some (.int (gi σ q6 1))]) (st1 := []) (σ1 := σ) rfl h21 ?_
                refine go_n 1 (f := (136, [some (.ref 39), some (.int x1), some (.int x2), some (.int x3), some (.int x4), some (.int (gi σ q6 1))], [.int 1], σ)) rfl ?_
                cases hf
                exact go_r rfl
def fX6_isTold (x1 : Int32) (x2 : Int32) (σ : Sg) : Option Int32 :=
  (fJ2_get 2 x1 σ).bind fun q1 => if [17, 18, 19, 20, 21].elem (kk σ q1) = true then if [17, 18, 19, 20, 21].elem (kk σ q1) = true then lp (fX6_isTold_L24 x1 x2 (gi σ q1 1) σ ) N0 0 else none else none
set_option maxHeartbeats 1500000 in
theorem fX6_isTold_ok (x1 : Int32) (x2 : Int32) (σ : Sg) (r : Int32) (hf : fX6_isTold x1 x2 σ = some r) : Cl true 3 11782 [.ref 39, .int x1, .int x2] σ (.inl (some (.int r)), σ) := by
  refine ⟨iX6_isTold, rfl, Nat.le_of_ble_eq_true rfl, Nat.le_of_ble_eq_true rfl, ?_⟩
  show Go true 3 iX6_isTold (0, [some (.ref 39), some (.int x1), some (.int x2), none, none, none], [], σ) (.inl (some (.int r)), σ)
  unfold fX6_isTold at hf
  refine go_n 5 (f := (11, [some (.ref 39), some (.int x1), some (.int x2), none, none, none], [.int x1, .ref 2], σ)) rfl ?_
  obtain ⟨q1, h2, hf⟩ := bnd hf
  refine go_c (mid := 2825) (args := [.ref 2, .int x1]) (pc := 14) (L := [some (.ref 39), some (.int x1), some (.int x2), none, none, none]) (st := []) (σ := σ) rfl ((fJ2_get_ok _ _ _ q1 h2).deep (Nat.le_of_ble_eq_true rfl)) ?_
  obtain ⟨h3, hf⟩ := grd hf
  refine go_cast rfl rfl rfl h3 ?_
  obtain ⟨h4, hf⟩ := grd hf
  refine go_get rfl rfl rfl h4 ?_
  refine go_n 3 (f := (24, [some (.ref 39), some (.int x1), some (.int x2), some (.int (gi σ q1 1)), some (.int 0), none], [], σ)) rfl ?_
  exact fX6_isTold_L24_ok _ _ _ _   N0 _ _ hf
/-! java/util/ArrayList.grow(I)[Ljava/lang/Object; -/
def fJ2_grow_J20 (x0 : Nat) (x1 : Int32) (x2 : Int32)  (σ : Sg) : Option (Nat × Sg) :=
  (fJ6_newLength x2 (x1 - x2) (x2 >>> 1) σ).bind fun q6 => if [16].elem (kk q6.2 x0) = true then (match (rf q6.2 x0 1) with
  | some a8 => (am_cof true q6.2 a8 q6.1).bind fun q12 => if [16].elem (kk q12.2 x0) = true then if (stT true x0 1).isNone = true then some (q12.1, (wr q12.2 x0 1 (some q12.1))) else none else none
  | none => none) else none
set_option maxHeartbeats 1500000 in
theorem fJ2_grow_J20_ok (x0 : Nat) (x1 : Int32) (x2 : Int32)  (σ : Sg)  (r : (Nat × Sg)) (hf : fJ2_grow_J20 x0 x1 x2  σ = some r) : Go true 2 iJ2_grow (20, [some (.ref x0), some (.int x1), some (.int x2), none], [], σ) (.inl (some (.ref (r).1)), (r).2) := by
  unfold fJ2_grow_J20 at hf
  refine go_n 7 (f := (27, [some (.ref x0), some (.int x1), some (.int x2), none], [.int (x2 >>> 1), .int (x1 - x2), .int x2], σ)) rfl ?_
  obtain ⟨q6, h7, hf⟩ := bnd hf
  refine go_c (mid := 3840) (args := [.int x2, .int (x1 - x2), .int (x2 >>> 1)]) (pc := 30) (L := [some (.ref x0), some (.int x1), some (.int x2), none]) (st := []) (σ := σ) rfl ((fJ6_newLength_ok _ _ _ _ q6 h7).deep (Nat.le_of_ble_eq_true rfl)) ?_
  refine go_n 3 (f := (33, [some (.ref x0), some (.int x1), some (.int x2), some (.int q6.1)], [.ref x0, .ref x0], q6.2)) rfl ?_
  obtain ⟨h9, hf⟩ := grd hf
  refine go_get rfl rfl rfl h9 ?_
  show Go true 2 iJ2_grow (36, [some (.ref x0), some (.int x1), some (.int x2), some (.int q6.1)], va_rf (rf q6.2 x0 1) :: [.ref x0], q6.2) _
  generalize hR10 : (rf q6.2 x0 1) = h15 at hf ⊢
  cases h15 with
  | none =>
    cases hf
  | some a8 =>
    refine go_n 1 (f := (37, [some (.ref x0), some (.int x1), some (.int x2), some (.int q6.1)], [.int q6.1, .ref a8, .ref x0], q6.2)) rfl ?_
    obtain ⟨q12, h11, hf⟩ := bnd hf
    refine go_b (mid := 20002) (args := [.ref a8, .int q6.1]) (pc := 40) (L := [some (.ref x0), some (.int x1), some (.int x2), some (.int q6.1)]) (st := [.ref x0]) (σ := q6.2) rfl (by decide) (am_bi_cof h11) ?_
    refine go_n 1 (f := (41, [some (.ref x0), some (.int x1), some (.int x2), some (.int q6.1)], [.ref q12.1, .ref x0, .ref q12.1], q12.2)) rfl ?_
    obtain ⟨h13, hf⟩ := grd hf
    obtain ⟨h14, hf⟩ := grd hf
    refine go_putr rfl rfl rfl h13 rfl h14 ?_
    cases hf
    exact go_r rfl
def fJ2_grow (x0 : Nat) (x1 : Int32) (σ : Sg) : Option (Nat × Sg) :=
  if [16].elem (kk σ x0) = true then (match (rf σ x0 1) with
  | some a1 => if 1 ≤ (kk σ a1) ∧ (kk σ a1) ≤ 6 then if 0 < (Int32.ofNat (kn σ a1)) then fJ2_grow_J20 x0 x1 (Int32.ofNat (kn σ a1))  σ else none else none
  | none => none) else none
set_option maxHeartbeats 1500000 in
theorem fJ2_grow_ok (x0 : Nat) (x1 : Int32) (σ : Sg) (r : (Nat × Sg)) (hf : fJ2_grow x0 x1 σ = some r) : Cl true 2 2820 [.ref x0, .int x1] σ (.inl (some (.ref (r).1)), (r).2) := by
  refine ⟨iJ2_grow, rfl, Nat.le_of_ble_eq_true rfl, Nat.le_of_ble_eq_true rfl, ?_⟩
  show Go true 2 iJ2_grow (0, [some (.ref x0), some (.int x1), none, none], [], σ) (.inl (some (.ref (r).1)), (r).2)
  unfold fJ2_grow at hf
  refine go_n 1 (f := (1, [some (.ref x0), some (.int x1), none, none], [.ref x0], σ)) rfl ?_
  obtain ⟨h2, hf⟩ := grd hf
  refine go_get rfl rfl rfl h2 ?_
  show Go true 2 iJ2_grow (4, [some (.ref x0), some (.int x1), none, none], va_rf (rf σ x0 1) :: [], σ) _
  generalize hR3 : (rf σ x0 1) = h18 at hf ⊢
  cases h18 with
  | none =>
    cases hf
  | some a1 =>
    obtain ⟨h4, hf⟩ := grd hf
    refine go_alen rfl rfl h4 ?_
    refine go_n 2 (f := (7, [some (.ref x0), some (.int x1), some (.int (Int32.ofNat (kn σ a1))), none], [.int (Int32.ofNat (kn σ a1))], σ)) rfl ?_
    by_cases h5 : 0 < (Int32.ofNat (kn σ a1))
    · rw [if_pos h5] at hf
      refine go_it (t := 20) (f := 10) (L1 := [some (.ref x0), some (.int x1), some (.int (Int32.ofNat (kn σ a1))), none]) (st1 := []) (σ1 := σ) rfl h5 ?_
      exact fJ2_grow_J20_ok _ _ _  _  _ hf
    · rw [if_neg h5] at hf
      refine go_if (t := 20) (f := 10) (L1 := [some (.ref x0), some (.int x1), some (.int (Int32.ofNat (kn σ a1))), none]) (st1 := []) (σ1 := σ) rfl h5 ?_
      cases hf
/-! java/util/ArrayList.grow()[Ljava/lang/Object; -/
def fJ2_grow_2 (x0 : Nat) (σ : Sg) : Option (Nat × Sg) :=
  if [16].elem (kk σ x0) = true then if (kk σ x0) = 16 then (fJ2_grow x0 ((gi σ x0 2) + 1) σ).bind fun q3 => some (q3.1, q3.2) else none else none
set_option maxHeartbeats 1500000 in
theorem fJ2_grow_2_ok (x0 : Nat) (σ : Sg) (r : (Nat × Sg)) (hf : fJ2_grow_2 x0 σ = some r) : Cl true 3 2824 [.ref x0] σ (.inl (some (.ref (r).1)), (r).2) := by
  refine ⟨iJ2_grow_2, rfl, Nat.le_of_ble_eq_true rfl, Nat.le_of_ble_eq_true rfl, ?_⟩
  show Go true 3 iJ2_grow_2 (0, [some (.ref x0)], [], σ) (.inl (some (.ref (r).1)), (r).2)
  unfold fJ2_grow_2 at hf
  refine go_n 2 (f := (2, [some (.ref x0)], [.ref x0, .ref x0], σ)) rfl ?_
  obtain ⟨h1, hf⟩ := grd hf
  refine go_get rfl rfl rfl h1 ?_
  refine go_n 2 (f := (7, [some (.ref x0)], [.int ((gi σ x0 2) + 1), .ref x0], σ)) rfl ?_
  obtain ⟨h2, hf⟩ := grd hf
  obtain ⟨q3, h4, hf⟩ := bnd hf
  refine go_c (mid := 2820) (args := [.ref x0, .int ((gi σ x0 2) + 1)]) (pc := 10) (L := [some (.ref x0)]) (st := []) (σ := σ) (stp_callV1 (n := 2) rfl rfl rfl ⟨Nat.le_of_ble_eq_true rfl, Nat.le_of_ble_eq_true rfl⟩ rfl h2 rfl) ((fJ2_grow_ok _ _ _ q3 h4).deep (Nat.le_of_ble_eq_true rfl)) ?_
  cases hf
  exact go_r rfl
/-! OldWeather.isDate(IIII)Z -/
def fX0_isDate (x0 : Int32) (x1 : Int32) (x2 : Int32) (x3 : Int32) : Option Int32 :=
  (fX0_in x0 1600 1901).bind fun q1 => if q1 = 0 then some 0 else (fX0_in x1 1 12).bind fun q4 => if q4 = 0 then some 0 else (fX0_daysOf x0 x1 x3).bind fun q7 => (fX0_in x2 1 q7).bind fun q9 => ((fun (z12 : Int32) => some z12) ((if q9 = 0 then 0 else 1) : Int32))
set_option maxHeartbeats 1500000 in
theorem fX0_isDate_ok (x0 : Int32) (x1 : Int32) (x2 : Int32) (x3 : Int32) (σ : Sg) (r : Int32) (hf : fX0_isDate x0 x1 x2 x3 = some r) : Cl true 2 5123 [.int x0, .int x1, .int x2, .int x3] σ (.inl (some (.int r)), σ) := by
  refine ⟨iX0_isDate, rfl, Nat.le_of_ble_eq_true rfl, Nat.le_of_ble_eq_true rfl, ?_⟩
  show Go true 2 iX0_isDate (0, [some (.int x0), some (.int x1), some (.int x2), some (.int x3)], [], σ) (.inl (some (.int r)), σ)
  unfold fX0_isDate at hf
  refine go_n 3 (f := (7, [some (.int x0), some (.int x1), some (.int x2), some (.int x3)], [.int 1901, .int 1600, .int x0], σ)) rfl ?_
  obtain ⟨q1, h2, hf⟩ := bnd hf
  refine go_c (mid := 5122) (args := [.int x0, .int 1600, .int 1901]) (pc := 10) (L := [some (.int x0), some (.int x1), some (.int x2), some (.int x3)]) (st := []) (σ := σ) rfl ((fX0_in_ok _ _ _ _ q1 h2).deep (Nat.le_of_ble_eq_true rfl)) ?_
  by_cases h3 : q1 = 0
  · rw [if_pos h3] at hf
    refine go_it (t := 41) (f := 13) (L1 := [some (.int x0), some (.int x1), some (.int x2), some (.int x3)]) (st1 := []) (σ1 := σ) rfl h3 ?_
    refine go_e (L1 := [none, none, none, none]) rfl rfl ?_
    refine go_n 1 (f := (42, [none, none, none, none], [.int 0], σ)) rfl ?_
    cases hf
    exact go_r rfl
  · rw [if_neg h3] at hf
    refine go_if (t := 41) (f := 13) (L1 := [some (.int x0), some (.int x1), some (.int x2), some (.int x3)]) (st1 := []) (σ1 := σ) rfl h3 ?_
    refine go_n 3 (f := (17, [some (.int x0), some (.int x1), some (.int x2), some (.int x3)], [.int 12, .int 1, .int x1], σ)) rfl ?_
    obtain ⟨q4, h5, hf⟩ := bnd hf
    refine go_c (mid := 5122) (args := [.int x1, .int 1, .int 12]) (pc := 20) (L := [some (.int x0), some (.int x1), some (.int x2), some (.int x3)]) (st := []) (σ := σ) rfl ((fX0_in_ok _ _ _ _ q4 h5).deep (Nat.le_of_ble_eq_true rfl)) ?_
    by_cases h6 : q4 = 0
    · rw [if_pos h6] at hf
      refine go_it (t := 41) (f := 23) (L1 := [some (.int x0), some (.int x1), some (.int x2), some (.int x3)]) (st1 := []) (σ1 := σ) rfl h6 ?_
      refine go_e (L1 := [none, none, none, none]) rfl rfl ?_
      refine go_n 1 (f := (42, [none, none, none, none], [.int 0], σ)) rfl ?_
      cases hf
      exact go_r rfl
    · rw [if_neg h6] at hf
      refine go_if (t := 41) (f := 23) (L1 := [some (.int x0), some (.int x1), some (.int x2), some (.int x3)]) (st1 := []) (σ1 := σ) rfl h6 ?_
      refine go_n 5 (f := (28, [some (.int x0), some (.int x1), some (.int x2), some (.int x3)], [.int x3, .int x1, .int x0, .int 1, .int x2], σ)) rfl ?_
      obtain ⟨q7, h8, hf⟩ := bnd hf
      refine go_c (mid := 5124) (args := [.int x0, .int x1, .int x3]) (pc := 31) (L := [some (.int x0), some (.int x1), some (.int x2), some (.int x3)]) (st := [.int 1, .int x2]) (σ := σ) rfl ((fX0_daysOf_ok _ _ _ _ q7 h8).deep (Nat.le_of_ble_eq_true rfl)) ?_
      obtain ⟨q9, h10, hf⟩ := bnd hf
      refine go_c (mid := 5122) (args := [.int x2, .int 1, .int q7]) (pc := 34) (L := [some (.int x0), some (.int x1), some (.int x2), some (.int x3)]) (st := []) (σ := σ) rfl ((fX0_in_ok _ _ _ _ q9 h10).deep (Nat.le_of_ble_eq_true rfl)) ?_
      refine go_m (f := (42, [none, none, none, none], [.int ((if q9 = 0 then 0 else 1) : Int32)], σ)) ?_ (fun hJ13 => ?_)
      · generalize hz12 : ((if q9 = 0 then 0 else 1) : Int32) = z12 at hf ⊢
        have oz12 : am_ok 3 z12 = true := hz12 ▸ (okb rfl rfl)
        try dsimp only at hf
        cases hf
        exact go_ret rfl rfl (Or.inr (Or.inl ⟨rfl, oz12⟩))
      · by_cases h11 : q9 = 0
        · refine go_it (t := 41) (f := 37) (L1 := [some (.int x0), some (.int x1), some (.int x2), some (.int x3)]) (st1 := []) (σ1 := σ) rfl h11 ?_
          refine go_e (L1 := [none, none, none, none]) rfl rfl ?_
          refine go_n 1 (f := (42, [none, none, none, none], [.int 0], σ)) rfl ?_
          refine go_e (L1 := [none, none, none, none]) rfl rfl ?_
          simp only [if_pos h11] at hJ13
          first | exact hJ13 | (simp only [if_pos h11]; exact hJ13)
        · refine go_if (t := 41) (f := 37) (L1 := [some (.int x0), some (.int x1), some (.int x2), some (.int x3)]) (st1 := []) (σ1 := σ) rfl h11 ?_
          refine go_n 2 (f := (42, [some (.int x0), some (.int x1), some (.int x2), some (.int x3)], [.int 1], σ)) rfl ?_
          refine go_e (L1 := [none, none, none, none]) rfl rfl ?_
          simp only [if_neg h11] at hJ13
          first | exact hJ13 | (simp only [if_neg h11]; exact hJ13)
/-! OldWeather.date(II)I -/
def fX0_date (x1 : Int32) (x2 : Int32) : Option Int32 :=
  (fX0_isDay x1).bind fun q1 => if q1 = 0 then some (-1) else (fX0_in x2 0 1).bind fun q4 => if q4 = 0 then some (-1) else (fX0_yearBegins 1600 x2).bind fun q7 => if q7 ≤ x1 then (fX0_yearOf x1 x2).bind fun q10 => (fX0_monthOf x1 x2).bind fun q12 => (fX0_dayAt q10 q12 1 x2).bind fun q14 => some (((((10000 * q10) + (100 * q12)) + x1) - q14) + 1) else some (-1)
set_option maxHeartbeats 1500000 in
theorem fX0_date_ok (x1 : Int32) (x2 : Int32) (σ : Sg) (r : Int32) (hf : fX0_date x1 x2 = some r) : Cl true 3 5129 [.ref 0, .int x1, .int x2] σ (.inl (some (.int r)), σ) := by
  refine ⟨iX0_date, rfl, Nat.le_of_ble_eq_true rfl, Nat.le_of_ble_eq_true rfl, ?_⟩
  show Go true 3 iX0_date (0, [some (.ref 0), some (.int x1), some (.int x2), none, none], [], σ) (.inl (some (.int r)), σ)
  unfold fX0_date at hf
  refine go_n 1 (f := (1, [some (.ref 0), some (.int x1), some (.int x2), none, none], [.int x1], σ)) rfl ?_
  obtain ⟨q1, h2, hf⟩ := bnd hf
  refine go_c (mid := 5128) (args := [.int x1]) (pc := 4) (L := [some (.ref 0), some (.int x1), some (.int x2), none, none]) (st := []) (σ := σ) rfl ((fX0_isDay_ok _ _ q1 h2).deep (Nat.le_of_ble_eq_true rfl)) ?_
  by_cases h3 : q1 = 0
  · rw [if_pos h3] at hf
    refine go_it (t := 27) (f := 7) (L1 := [some (.ref 0), some (.int x1), some (.int x2), none, none]) (st1 := []) (σ1 := σ) rfl h3 ?_
    refine go_e (L1 := [none, none, none, none, none]) rfl rfl ?_
    refine go_n 1 (f := (28, [none, none, none, none, none], [.int (-1)], σ)) rfl ?_
    cases hf
    exact go_r rfl
  · rw [if_neg h3] at hf
    refine go_if (t := 27) (f := 7) (L1 := [some (.ref 0), some (.int x1), some (.int x2), none, none]) (st1 := []) (σ1 := σ) rfl h3 ?_
    refine go_n 3 (f := (10, [some (.ref 0), some (.int x1), some (.int x2), none, none], [.int 1, .int 0, .int x2], σ)) rfl ?_
    obtain ⟨q4, h5, hf⟩ := bnd hf
    refine go_c (mid := 5122) (args := [.int x2, .int 0, .int 1]) (pc := 13) (L := [some (.ref 0), some (.int x1), some (.int x2), none, none]) (st := []) (σ := σ) rfl ((fX0_in_ok _ _ _ _ q4 h5).deep (Nat.le_of_ble_eq_true rfl)) ?_
    by_cases h6 : q4 = 0
    · rw [if_pos h6] at hf
      refine go_it (t := 27) (f := 16) (L1 := [some (.ref 0), some (.int x1), some (.int x2), none, none]) (st1 := []) (σ1 := σ) rfl h6 ?_
      refine go_e (L1 := [none, none, none, none, none]) rfl rfl ?_
      refine go_n 1 (f := (28, [none, none, none, none, none], [.int (-1)], σ)) rfl ?_
      cases hf
      exact go_r rfl
    · rw [if_neg h6] at hf
      refine go_if (t := 27) (f := 16) (L1 := [some (.ref 0), some (.int x1), some (.int x2), none, none]) (st1 := []) (σ1 := σ) rfl h6 ?_
      refine go_n 3 (f := (21, [some (.ref 0), some (.int x1), some (.int x2), none, none], [.int x2, .int 1600, .int x1], σ)) rfl ?_
      obtain ⟨q7, h8, hf⟩ := bnd hf
      refine go_c (mid := 5127) (args := [.int 1600, .int x2]) (pc := 24) (L := [some (.ref 0), some (.int x1), some (.int x2), none, none]) (st := [.int x1]) (σ := σ) rfl ((fX0_yearBegins_ok _ _ _ q7 h8).deep (Nat.le_of_ble_eq_true rfl)) ?_
      by_cases h9 : q7 ≤ x1
      · rw [if_pos h9] at hf
        refine go_it (t := 29) (f := 27) (L1 := [some (.ref 0), some (.int x1), some (.int x2), none, none]) (st1 := []) (σ1 := σ) rfl h9 ?_
        refine go_n 2 (f := (31, [some (.ref 0), some (.int x1), some (.int x2), none, none], [.int x2, .int x1], σ)) rfl ?_
        obtain ⟨q10, h11, hf⟩ := bnd hf
        refine go_c (mid := 5130) (args := [.int x1, .int x2]) (pc := 34) (L := [some (.ref 0), some (.int x1), some (.int x2), none, none]) (st := []) (σ := σ) rfl ((fX0_yearOf_ok _ _ _ q10 h11).deep (Nat.le_of_ble_eq_true rfl)) ?_
        refine go_n 3 (f := (37, [some (.ref 0), some (.int x1), some (.int x2), some (.int q10), none], [.int x2, .int x1], σ)) rfl ?_
        obtain ⟨q12, h13, hf⟩ := bnd hf
        refine go_c (mid := 5131) (args := [.int x1, .int x2]) (pc := 40) (L := [some (.ref 0), some (.int x1), some (.int x2), some (.int q10), none]) (st := []) (σ := σ) rfl ((fX0_monthOf_ok _ _ _ q12 h13).deep (Nat.le_of_ble_eq_true rfl)) ?_
        refine go_n 10 (f := (55, [some (.ref 0), some (.int x1), some (.int x2), some (.int q10), some (.int q12)], [.int (((10000 * q10) + (100 * q12)) + x1)], σ)) rfl ?_
        refine go_n 4 (f := (60, [some (.ref 0), some (.int x1), some (.int x2), some (.int q10), some (.int q12)], [.int x2, .int 1, .int q12, .int q10, .int (((10000 * q10) + (100 * q12)) + x1)], σ)) rfl ?_
        obtain ⟨q14, h15, hf⟩ := bnd hf
        refine go_c (mid := 5126) (args := [.int q10, .int q12, .int 1, .int x2]) (pc := 63) (L := [some (.ref 0), some (.int x1), some (.int x2), some (.int q10), some (.int q12)]) (st := [.int (((10000 * q10) + (100 * q12)) + x1)]) (σ := σ) rfl ((fX0_dayAt_ok _ _ _ _ _ q14 h15).deep (Nat.le_of_ble_eq_true rfl)) ?_
        refine go_n 3 (f := (66, [some (.ref 0), some (.int x1), some (.int x2), some (.int q10), some (.int q12)], [.int (((((10000 * q10) + (100 * q12)) + x1) - q14) + 1)], σ)) rfl ?_
        cases hf
        exact go_r rfl
      · rw [if_neg h9] at hf
        refine go_if (t := 29) (f := 27) (L1 := [some (.ref 0), some (.int x1), some (.int x2), none, none]) (st1 := []) (σ1 := σ) rfl h9 ?_
        refine go_e (L1 := [none, none, none, none, none]) rfl rfl ?_
        refine go_n 1 (f := (28, [none, none, none, none, none], [.int (-1)], σ)) rfl ?_
        cases hf
        exact go_r rfl
/-! OldWeather.lacks(IIIII)I -/
def fX0_lacks_J22 (x1 : Int32) (x5 : Int32)  (σ : Sg) : Option Int32 :=
  (fX0_isDesk x5).bind fun q4 => if q4 ≠ 0 then (fX0_isSource x1 σ).bind fun q7 => if q7 ≠ 0 then (fJ2_size 2 σ).bind fun q10 => ((fun (z13 : Int32) => some z13) ((if q10 ≠ 200 then 0 else (-5)) : Int32)) else some (-2) else some (-1)
set_option maxHeartbeats 1500000 in
theorem fX0_lacks_J22_ok (x1 : Int32) (x5 : Int32)  (σ : Sg)  (r : Int32) (hf : fX0_lacks_J22 x1 x5  σ = some r) : Go true 3 iX0_lacks (22, [some (.ref 0), some (.int x1), none, none, none, some (.int x5)], [], σ) (.inl (some (.int r)), σ) := by
  unfold fX0_lacks_J22 at hf
  refine go_n 1 (f := (24, [some (.ref 0), some (.int x1), none, none, none, some (.int x5)], [.int x5], σ)) rfl ?_
  obtain ⟨q4, h5, hf⟩ := bnd hf
  refine go_c (mid := 5147) (args := [.int x5]) (pc := 27) (L := [some (.ref 0), some (.int x1), none, none, none, some (.int x5)]) (st := []) (σ := σ) rfl ((fX0_isDesk_ok _ _ q4 h5).deep (Nat.le_of_ble_eq_true rfl)) ?_
  by_cases h6 : q4 ≠ 0
  · rw [if_pos h6] at hf
    refine go_it (t := 32) (f := 30) (L1 := [some (.ref 0), some (.int x1), none, none, none, some (.int x5)]) (st1 := []) (σ1 := σ) rfl h6 ?_
    refine go_n 2 (f := (34, [some (.ref 0), some (.int x1), none, none, none, some (.int x5)], [.int x1, .ref 0], σ)) rfl ?_
    obtain ⟨q7, h8, hf⟩ := bnd hf
    refine go_c (mid := 5143) (args := [.ref 0, .int x1]) (pc := 37) (L := [some (.ref 0), some (.int x1), none, none, none, some (.int x5)]) (st := []) (σ := σ) rfl ((fX0_isSource_ok _ _ q7 h8).deep (Nat.le_of_ble_eq_true rfl)) ?_
    by_cases h9 : q7 ≠ 0
    · rw [if_pos h9] at hf
      refine go_it (t := 45) (f := 40) (L1 := [some (.ref 0), some (.int x1), none, none, none, some (.int x5)]) (st1 := []) (σ1 := σ) rfl h9 ?_
      refine go_n 3 (f := (52, [some (.ref 0), some (.int x1), none, none, none, some (.int x5)], [.ref 2], σ)) rfl ?_
      obtain ⟨q10, h11, hf⟩ := bnd hf
      refine go_c (mid := 2821) (args := [.ref 2]) (pc := 55) (L := [some (.ref 0), some (.int x1), none, none, none, some (.int x5)]) (st := []) (σ := σ) rfl ((fJ2_size_ok _ _ q10 h11).deep (Nat.le_of_ble_eq_true rfl)) ?_
      refine go_n 1 (f := (58, [some (.ref 0), some (.int x1), none, none, none, some (.int x5)], [.int 200, .int q10], σ)) rfl ?_
      refine go_m (f := (67, [none, none, none, none, none, none], [.int ((if q10 ≠ 200 then 0 else (-5)) : Int32)], σ)) ?_ (fun hJ14 => ?_)
      · generalize hz13 : ((if q10 ≠ 200 then 0 else (-5)) : Int32) = z13 at hf ⊢
        try dsimp only at hf
        cases hf
        exact go_r rfl
      · by_cases h12 : q10 ≠ 200
        · refine go_it (t := 66) (f := 61) (L1 := [some (.ref 0), some (.int x1), none, none, none, some (.int x5)]) (st1 := []) (σ1 := σ) rfl h12 ?_
          refine go_n 1 (f := (67, [some (.ref 0), some (.int x1), none, none, none, some (.int x5)], [.int 0], σ)) rfl ?_
          refine go_e (L1 := [none, none, none, none, none, none]) rfl rfl ?_
          simp only [if_pos h12] at hJ14
          first | exact hJ14 | (simp only [if_pos h12]; exact hJ14)
        · refine go_if (t := 66) (f := 61) (L1 := [some (.ref 0), some (.int x1), none, none, none, some (.int x5)]) (st1 := []) (σ1 := σ) rfl h12 ?_
          refine go_n 2 (f := (67, [some (.ref 0), some (.int x1), none, none, none, some (.int x5)], [.int (-5)], σ)) rfl ?_
          refine go_e (L1 := [none, none, none, none, none, none]) rfl rfl ?_
          simp only [if_neg h12] at hJ14
          first | exact hJ14 | (simp only [if_neg h12]; exact hJ14)
    · rw [if_neg h9] at hf
      refine go_if (t := 45) (f := 40) (L1 := [some (.ref 0), some (.int x1), none, none, none, some (.int x5)]) (st1 := []) (σ1 := σ) rfl h9 ?_
      refine go_n 2 (f := (67, [some (.ref 0), some (.int x1), none, none, none, some (.int x5)], [.int (-2)], σ)) rfl ?_
      refine go_e (L1 := [none, none, none, none, none, none]) rfl rfl ?_
      cases hf
      exact go_r rfl
  · rw [if_neg h6] at hf
    refine go_if (t := 32) (f := 30) (L1 := [some (.ref 0), some (.int x1), none, none, none, some (.int x5)]) (st1 := []) (σ1 := σ) rfl h6 ?_
    refine go_e (L1 := [none, none, none, none, none, none]) rfl rfl ?_
    refine go_n 1 (f := (31, [none, none, none, none, none, none], [.int (-1)], σ)) rfl ?_
    cases hf
    exact go_r rfl
def fX0_lacks (x1 : Int32) (x2 : Int32) (x3 : Int32) (x4 : Int32) (x5 : Int32) (σ : Sg) : Option Int32 :=
  (fX0_isDate x2 x3 x4 0).bind fun q1 => if q1 ≠ 0 then fX0_lacks_J22 x1 x5  σ else (fX0_isDate x2 x3 x4 1).bind fun q15 => if q15 = 0 then some (-1) else fX0_lacks_J22 x1 x5  σ
set_option maxHeartbeats 1500000 in
theorem fX0_lacks_ok (x1 : Int32) (x2 : Int32) (x3 : Int32) (x4 : Int32) (x5 : Int32) (σ : Sg) (r : Int32) (hf : fX0_lacks x1 x2 x3 x4 x5 σ = some r) : Cl true 3 5146 [.ref 0, .int x1, .int x2, .int x3, .int x4, .int x5] σ (.inl (some (.int r)), σ) := by
  refine ⟨iX0_lacks, rfl, Nat.le_of_ble_eq_true rfl, Nat.le_of_ble_eq_true rfl, ?_⟩
  show Go true 3 iX0_lacks (0, [some (.ref 0), some (.int x1), some (.int x2), some (.int x3), some (.int x4), some (.int x5)], [], σ) (.inl (some (.int r)), σ)
  unfold fX0_lacks at hf
  refine go_n 4 (f := (5, [some (.ref 0), some (.int x1), some (.int x2), some (.int x3), some (.int x4), some (.int x5)], [.int 0, .int x4, .int x3, .int x2], σ)) rfl ?_
  obtain ⟨q1, h2, hf⟩ := bnd hf
  refine go_c (mid := 5123) (args := [.int x2, .int x3, .int x4, .int 0]) (pc := 8) (L := [some (.ref 0), some (.int x1), some (.int x2), some (.int x3), some (.int x4), some (.int x5)]) (st := []) (σ := σ) rfl ((fX0_isDate_ok _ _ _ _ _ q1 h2).deep (Nat.le_of_ble_eq_true rfl)) ?_
  by_cases h3 : q1 ≠ 0
  · rw [if_pos h3] at hf
    refine go_it (t := 22) (f := 11) (L1 := [some (.ref 0), some (.int x1), some (.int x2), some (.int x3), some (.int x4), some (.int x5)]) (st1 := []) (σ1 := σ) rfl h3 ?_
    refine go_e (L1 := [some (.ref 0), some (.int x1), none, none, none, some (.int x5)]) rfl rfl ?_
    exact fX0_lacks_J22_ok _ _  _  _ hf
  · rw [if_neg h3] at hf
    refine go_if (t := 22) (f := 11) (L1 := [some (.ref 0), some (.int x1), some (.int x2), some (.int x3), some (.int x4), some (.int x5)]) (st1 := []) (σ1 := σ) rfl h3 ?_
    refine go_n 4 (f := (16, [some (.ref 0), some (.int x1), some (.int x2), some (.int x3), some (.int x4), some (.int x5)], [.int 1, .int x4, .int x3, .int x2], σ)) rfl ?_
    obtain ⟨q15, h16, hf⟩ := bnd hf
    refine go_c (mid := 5123) (args := [.int x2, .int x3, .int x4, .int 1]) (pc := 19) (L := [some (.ref 0), some (.int x1), some (.int x2), some (.int x3), some (.int x4), some (.int x5)]) (st := []) (σ := σ) rfl ((fX0_isDate_ok _ _ _ _ _ q15 h16).deep (Nat.le_of_ble_eq_true rfl)) ?_
    by_cases h17 : q15 = 0
    · rw [if_pos h17] at hf
      refine go_it (t := 30) (f := 22) (L1 := [some (.ref 0), some (.int x1), some (.int x2), some (.int x3), some (.int x4), some (.int x5)]) (st1 := []) (σ1 := σ) rfl h17 ?_
      refine go_e (L1 := [none, none, none, none, none, none]) rfl rfl ?_
      refine go_n 1 (f := (31, [none, none, none, none, none, none], [.int (-1)], σ)) rfl ?_
      cases hf
      exact go_r rfl
    · rw [if_neg h17] at hf
      refine go_if (t := 30) (f := 22) (L1 := [some (.ref 0), some (.int x1), some (.int x2), some (.int x3), some (.int x4), some (.int x5)]) (st1 := []) (σ1 := σ) rfl h17 ?_
      refine go_e (L1 := [some (.ref 0), some (.int x1), none, none, none, some (.int x5)]) rfl rfl ?_
      exact fX0_lacks_J22_ok _ _  _  _ hf
/-! OldWeather.dates()V -/
def fX0_dates_J144 (x1 : Int32) (x3 : Int32) (x4 : Int32) (s0 : Int32) (rec22 : (Int32 × Sg) → Option Sg) (σ : Sg) : Option Sg :=
  (fX0_isDay x4).bind fun q22 => ((fun (z27 : Int32) => (fX0_isDay s0).bind fun q28 => ((fun (z35 : Int32) => ((fun (z37 : Int32) => if inb x1 200 then ((fun (z40 : Int32) => if inb x1 200 then rec22 ((x1 + 1), (wi (wi σ 25 x1.toNatClampNeg z37) 26 x1.toNatClampNeg z40)) else none) (if z27 = (-1) then (-1) else z35)) else none) (if z27 = (-1) then z35 else z27))) (if q28 = 0 then (-1) else (if x3 = (-1) then (if z27 ≠ s0 then s0 else (-1)) else (if x3 ≤ s0 then (-1) else (if z27 ≠ s0 then s0 else (-1))))))) (if q22 = 0 then (-1) else (if x3 = (-1) then x4 else (if x3 ≤ x4 then x4 else (-1)))))
set_option maxHeartbeats 1500000 in
theorem fX0_dates_J144_ok (x1 : Int32) (x3 : Int32) (x4 : Int32) (s0 : Int32) (rec22 : (Int32 × Sg) → Option Sg) (σ : Sg) (hrec22 : ∀ (y1 : Int32) (τ : Sg) (r : Sg), rec22 (y1, τ) = some r → Go true 3 iX0_dates (22, [some (.ref 0), some (.int y1), none, none, none, none], [], τ) (.inl none, r)) (r : Sg) (hf : fX0_dates_J144 x1 x3 x4 s0 rec22 σ = some r) : Go true 3 iX0_dates (144, [some (.ref 0), some (.int x1), none, some (.int x3), some (.int x4), none], [.int s0], σ) (.inl none, r) := by
  unfold fX0_dates_J144 at hf
  refine go_n 2 (f := (148, [some (.ref 0), some (.int x1), none, some (.int x3), some (.int x4), some (.int s0)], [.int x4], σ)) rfl ?_
  obtain ⟨q22, h23, hf⟩ := bnd hf
  refine go_c (mid := 5128) (args := [.int x4]) (pc := 151) (L := [some (.ref 0), some (.int x1), none, some (.int x3), some (.int x4), some (.int s0)]) (st := []) (σ := σ) rfl ((fX0_isDay_ok _ _ q22 h23).deep (Nat.le_of_ble_eq_true rfl)) ?_
  refine go_m (f := (168, [some (.ref 0), some (.int x1), none, some (.int x3), some (.int (if q22 = 0 then (-1) else (if x3 = (-1) then x4 else (if x3 ≤ x4 then x4 else (-1))))), some (.int s0)], [], σ)) ?_ (fun hJ45 => ?_)
  · generalize hz27 : (if q22 = 0 then (-1) else (if x3 = (-1) then x4 else (if x3 ≤ x4 then x4 else (-1)))) = z27 at hf ⊢
    try dsimp only at hf
    refine go_n 1 (f := (170, [some (.ref 0), some (.int x1), none, some (.int x3), some (.int z27), some (.int s0)], [.int s0], σ)) rfl ?_
    obtain ⟨q28, h29, hf⟩ := bnd hf
    refine go_c (mid := 5128) (args := [.int s0]) (pc := 173) (L := [some (.ref 0), some (.int x1), none, some (.int x3), some (.int z27), some (.int s0)]) (st := []) (σ := σ) rfl ((fX0_isDay_ok _ _ q28 h29).deep (Nat.le_of_ble_eq_true rfl)) ?_
    refine go_m (f := (197, [some (.ref 0), some (.int x1), none, none, some (.int z27), some (.int (if q28 = 0 then (-1) else (if x3 = (-1) then (if z27 ≠ s0 then s0 else (-1)) else (if x3 ≤ s0 then (-1) else (if z27 ≠ s0 then s0 else (-1))))))], [], σ)) ?_ (fun hJ44 => ?_)
    · generalize hz35 : (if q28 = 0 then (-1) else (if x3 = (-1) then (if z27 ≠ s0 then s0 else (-1)) else (if x3 ≤ s0 then (-1) else (if z27 ≠ s0 then s0 else (-1))))) = z35 at hf ⊢
      try dsimp only at hf
      refine go_n 5 (f := (205, [some (.ref 0), some (.int x1), none, none, some (.int z27), some (.int z35)], [.int (-1), .int z27, .int x1, .ref 25], σ)) rfl ?_
      refine go_m (f := (215, [some (.ref 0), some (.int x1), none, none, some (.int z27), some (.int z35)], [.int (if z27 = (-1) then z35 else z27), .int x1, .ref 25], σ)) ?_ (fun hJ43 => ?_)
      · generalize hz37 : (if z27 = (-1) then z35 else z27) = z37 at hf ⊢
        try dsimp only at hf
        obtain ⟨h38, hf⟩ := grd hf
        refine go_iast rfl rfl rfl h38 ?_
        refine go_n 5 (f := (224, [some (.ref 0), some (.int x1), none, none, some (.int z27), some (.int z35)], [.int (-1), .int z27, .int x1, .ref 26], (wi σ 25 x1.toNatClampNeg z37))) rfl ?_
        refine go_m (f := (233, [some (.ref 0), some (.int x1), none, none, none, none], [.int (if z27 = (-1) then (-1) else z35), .int x1, .ref 26], (wi σ 25 x1.toNatClampNeg z37))) ?_ (fun hJ42 => ?_)
        · generalize hz40 : (if z27 = (-1) then (-1) else z35) = z40 at hf ⊢
          try dsimp only at hf
          obtain ⟨h41, hf⟩ := grd hf
          refine go_iast rfl rfl rfl h41 ?_
          refine go_n 2 (f := (22, [some (.ref 0), some (.int (x1 + 1)), none, none, none, none], [], (wi (wi σ 25 x1.toNatClampNeg z37) 26 x1.toNatClampNeg z40))) rfl ?_
          exact hrec22 _ _ _ hf
        · by_cases h39 : z27 = (-1)
          · refine go_it (t := 232) (f := 227) (L1 := [some (.ref 0), some (.int x1), none, none, some (.int z27), some (.int z35)]) (st1 := [.int x1, .ref 26]) (σ1 := (wi σ 25 x1.toNatClampNeg z37)) rfl h39 ?_
            refine go_n 1 (f := (233, [some (.ref 0), some (.int x1), none, none, some (.int z27), some (.int z35)], [.int (-1), .int x1, .ref 26], (wi σ 25 x1.toNatClampNeg z37))) rfl ?_
            refine go_e (L1 := [some (.ref 0), some (.int x1), none, none, none, none]) rfl rfl ?_
            simp only [if_pos h39] at hJ42
            first | exact hJ42 | (simp only [if_pos h39]; exact hJ42)
          · refine go_if (t := 232) (f := 227) (L1 := [some (.ref 0), some (.int x1), none, none, some (.int z27), some (.int z35)]) (st1 := [.int x1, .ref 26]) (σ1 := (wi σ 25 x1.toNatClampNeg z37)) rfl h39 ?_
            refine go_n 2 (f := (233, [some (.ref 0), some (.int x1), none, none, some (.int z27), some (.int z35)], [.int z35, .int x1, .ref 26], (wi σ 25 x1.toNatClampNeg z37))) rfl ?_
            refine go_e (L1 := [some (.ref 0), some (.int x1), none, none, none, none]) rfl rfl ?_
            simp only [if_neg h39] at hJ42
            first | exact hJ42 | (simp only [if_neg h39]; exact hJ42)
      · by_cases h36 : z27 = (-1)
        · refine go_it (t := 213) (f := 208) (L1 := [some (.ref 0), some (.int x1), none, none, some (.int z27), some (.int z35)]) (st1 := [.int x1, .ref 25]) (σ1 := σ) rfl h36 ?_
          refine go_n 1 (f := (215, [some (.ref 0), some (.int x1), none, none, some (.int z27), some (.int z35)], [.int z35, .int x1, .ref 25], σ)) rfl ?_
          refine go_e (L1 := [some (.ref 0), some (.int x1), none, none, some (.int z27), some (.int z35)]) rfl rfl ?_
          simp only [if_pos h36] at hJ43
          first | exact hJ43 | (simp only [if_pos h36]; exact hJ43)
        · refine go_if (t := 213) (f := 208) (L1 := [some (.ref 0), some (.int x1), none, none, some (.int z27), some (.int z35)]) (st1 := [.int x1, .ref 25]) (σ1 := σ) rfl h36 ?_
          refine go_n 2 (f := (215, [some (.ref 0), some (.int x1), none, none, some (.int z27), some (.int z35)], [.int z27, .int x1, .ref 25], σ)) rfl ?_
          refine go_e (L1 := [some (.ref 0), some (.int x1), none, none, some (.int z27), some (.int z35)]) rfl rfl ?_
          simp only [if_neg h36] at hJ43
          first | exact hJ43 | (simp only [if_neg h36]; exact hJ43)
    · by_cases h30 : q28 = 0
      · refine go_it (t := 194) (f := 176) (L1 := [some (.ref 0), some (.int x1), none, some (.int x3), some (.int z27), some (.int s0)]) (st1 := []) (σ1 := σ) rfl h30 ?_
        refine go_e (L1 := [some (.ref 0), some (.int x1), none, none, some (.int z27), none]) rfl rfl ?_
        refine go_n 2 (f := (197, [some (.ref 0), some (.int x1), none, none, some (.int z27), some (.int (-1))], [], σ)) rfl ?_
        refine go_e (L1 := [some (.ref 0), some (.int x1), none, none, some (.int z27), some (.int (-1))]) rfl rfl ?_
        simp only [if_pos h30] at hJ44
        first | exact hJ44 | (simp only [if_pos h30]; exact hJ44)
      · refine go_if (t := 194) (f := 176) (L1 := [some (.ref 0), some (.int x1), none, some (.int x3), some (.int z27), some (.int s0)]) (st1 := []) (σ1 := σ) rfl h30 ?_
        refine go_n 2 (f := (178, [some (.ref 0), some (.int x1), none, some (.int x3), some (.int z27), some (.int s0)], [.int (-1), .int x3], σ)) rfl ?_
        by_cases h31 : x3 = (-1)
        · refine go_it (t := 187) (f := 181) (L1 := [some (.ref 0), some (.int x1), none, some (.int x3), some (.int z27), some (.int s0)]) (st1 := []) (σ1 := σ) rfl h31 ?_
          refine go_e (L1 := [some (.ref 0), some (.int x1), none, none, some (.int z27), some (.int s0)]) rfl rfl ?_
          refine go_n 2 (f := (191, [some (.ref 0), some (.int x1), none, none, some (.int z27), some (.int s0)], [.int s0, .int z27], σ)) rfl ?_
          by_cases h32 : z27 ≠ s0
          · refine go_it (t := 197) (f := 194) (L1 := [some (.ref 0), some (.int x1), none, none, some (.int z27), some (.int s0)]) (st1 := []) (σ1 := σ) rfl h32 ?_
            refine go_e (L1 := [some (.ref 0), some (.int x1), none, none, some (.int z27), some (.int s0)]) rfl rfl ?_
            simp only [if_neg h30, if_pos h31, if_pos h32] at hJ44
            first | exact hJ44 | (simp only [if_neg h30, if_pos h31, if_pos h32]; exact hJ44)
          · refine go_if (t := 197) (f := 194) (L1 := [some (.ref 0), some (.int x1), none, none, some (.int z27), some (.int s0)]) (st1 := []) (σ1 := σ) rfl h32 ?_
            refine go_e (L1 := [some (.ref 0), some (.int x1), none, none, some (.int z27), none]) rfl rfl ?_
            refine go_n 2 (f := (197, [some (.ref 0), some (.int x1), none, none, some (.int z27), some (.int (-1))], [], σ)) rfl ?_
            refine go_e (L1 := [some (.ref 0), some (.int x1), none, none, some (.int z27), some (.int (-1))]) rfl rfl ?_
            simp only [if_neg h30, if_pos h31, if_neg h32] at hJ44
            first | exact hJ44 | (simp only [if_neg h30, if_pos h31, if_neg h32]; exact hJ44)
        · refine go_if (t := 187) (f := 181) (L1 := [some (.ref 0), some (.int x1), none, some (.int x3), some (.int z27), some (.int s0)]) (st1 := []) (σ1 := σ) rfl h31 ?_
          refine go_n 2 (f := (184, [some (.ref 0), some (.int x1), none, some (.int x3), some (.int z27), some (.int s0)], [.int x3, .int s0], σ)) rfl ?_
          by_cases h33 : x3 ≤ s0
          · refine go_it (t := 194) (f := 187) (L1 := [some (.ref 0), some (.int x1), none, some (.int x3), some (.int z27), some (.int s0)]) (st1 := []) (σ1 := σ) rfl h33 ?_
            refine go_e (L1 := [some (.ref 0), some (.int x1), none, none, some (.int z27), none]) rfl rfl ?_
            refine go_n 2 (f := (197, [some (.ref 0), some (.int x1), none, none, some (.int z27), some (.int (-1))], [], σ)) rfl ?_
            refine go_e (L1 := [some (.ref 0), some (.int x1), none, none, some (.int z27), some (.int (-1))]) rfl rfl ?_
            simp only [if_neg h30, if_neg h31, if_pos h33] at hJ44
            first | exact hJ44 | (simp only [if_neg h30, if_neg h31, if_pos h33]; exact hJ44)
          · refine go_if (t := 194) (f := 187) (L1 := [some (.ref 0), some (.int x1), none, some (.int x3), some (.int z27), some (.int s0)]) (st1 := []) (σ1 := σ) rfl h33 ?_
            refine go_e (L1 := [some (.ref 0), some (.int x1), none, none, some (.int z27), some (.int s0)]) rfl rfl ?_
            refine go_n 2 (f := (191, [some (.ref 0), some (.int x1), none, none, some (.int z27), some (.int s0)], [.int s0, .int z27], σ)) rfl ?_
            by_cases h34 : z27 ≠ s0
            · refine go_it (t := 197) (f := 194) (L1 := [some (.ref 0), some (.int x1), none, none, some (.int z27), some (.int s0)]) (st1 := []) (σ1 := σ) rfl h34 ?_
              refine go_e (L1 := [some (.ref 0), some (.int x1), none, none, some (.int z27), some (.int s0)]) rfl rfl ?_
              simp only [if_neg h30, if_neg h31, if_neg h33, if_pos h34] at hJ44
              first | exact hJ44 | (simp only [if_neg h30, if_neg h31, if_neg h33, if_pos h34]; exact hJ44)
            · refine go_if (t := 197) (f := 194) (L1 := [some (.ref 0), some (.int x1), none, none, some (.int z27), some (.int s0)]) (st1 := []) (σ1 := σ) rfl h34 ?_
              refine go_e (L1 := [some (.ref 0), some (.int x1), none, none, some (.int z27), none]) rfl rfl ?_
              refine go_n 2 (f := (197, [some (.ref 0), some (.int x1), none, none, some (.int z27), some (.int (-1))], [], σ)) rfl ?_
              refine go_e (L1 := [some (.ref 0), some (.int x1), none, none, some (.int z27), some (.int (-1))]) rfl rfl ?_
              simp only [if_neg h30, if_neg h31, if_neg h33, if_neg h34] at hJ44
              first | exact hJ44 | (simp only [if_neg h30, if_neg h31, if_neg h33, if_neg h34]; exact hJ44)
  · by_cases h24 : q22 = 0
    · refine go_it (t := 165) (f := 154) (L1 := [some (.ref 0), some (.int x1), none, some (.int x3), some (.int x4), some (.int s0)]) (st1 := []) (σ1 := σ) rfl h24 ?_
      refine go_e (L1 := [some (.ref 0), some (.int x1), none, some (.int x3), none, some (.int s0)]) rfl rfl ?_
      refine go_n 2 (f := (168, [some (.ref 0), some (.int x1), none, some (.int x3), some (.int (-1)), some (.int s0)], [], σ)) rfl ?_
      refine go_e (L1 := [some (.ref 0), some (.int x1), none, some (.int x3), some (.int (-1)), some (.int s0)]) rfl rfl ?_
      simp only [if_pos h24] at hJ45
      first | exact hJ45 | (simp only [if_pos h24]; exact hJ45)
    · refine go_if (t := 165) (f := 154) (L1 := [some (.ref 0), some (.int x1), none, some (.int x3), some (.int x4), some (.int s0)]) (st1 := []) (σ1 := σ) rfl h24 ?_
      refine go_n 2 (f := (156, [some (.ref 0), some (.int x1), none, some (.int x3), some (.int x4), some (.int s0)], [.int (-1), .int x3], σ)) rfl ?_
      by_cases h25 : x3 = (-1)
      · refine go_it (t := 168) (f := 159) (L1 := [some (.ref 0), some (.int x1), none, some (.int x3), some (.int x4), some (.int s0)]) (st1 := []) (σ1 := σ) rfl h25 ?_
        refine go_e (L1 := [some (.ref 0), some (.int x1), none, some (.int x3), some (.int x4), some (.int s0)]) rfl rfl ?_
        simp only [if_neg h24, if_pos h25] at hJ45
        first | exact hJ45 | (simp only [if_neg h24, if_pos h25]; exact hJ45)
      · refine go_if (t := 168) (f := 159) (L1 := [some (.ref 0), some (.int x1), none, some (.int x3), some (.int x4), some (.int s0)]) (st1 := []) (σ1 := σ) rfl h25 ?_
        refine go_n 2 (f := (162, [some (.ref 0), some (.int x1), none, some (.int x3), some (.int x4), some (.int s0)], [.int x3, .int x4], σ)) rfl ?_
        by_cases h26 : x3 ≤ x4
        · refine go_it (t := 168) (f := 165) (L1 := [some (.ref 0), some (.int x1), none, some (.int x3), some (.int x4), some (.int s0)]) (st1 := []) (σ1 := σ) rfl h26 ?_
          refine go_e (L1 := [some (.ref 0), some (.int x1), none, some (.int x3), some (.int x4), some (.int s0)]) rfl rfl ?_
          simp only [if_neg h24, if_neg h25, if_pos h26] at hJ45
          first | exact hJ45 | (simp only [if_neg h24, if_neg h25, if_pos h26]; exact hJ45)
        · refine go_if (t := 168) (f := 165) (L1 := [some (.ref 0), some (.int x1), none, some (.int x3), some (.int x4), some (.int s0)]) (st1 := []) (σ1 := σ) rfl h26 ?_
          refine go_e (L1 := [some (.ref 0), some (.int x1), none, some (.int x3), none, some (.int s0)]) rfl rfl ?_
          refine go_n 2 (f := (168, [some (.ref 0), some (.int x1), none, some (.int x3), some (.int (-1)), some (.int s0)], [], σ)) rfl ?_
          refine go_e (L1 := [some (.ref 0), some (.int x1), none, some (.int x3), some (.int (-1)), some (.int s0)]) rfl rfl ?_
          simp only [if_neg h24, if_neg h25, if_neg h26] at hJ45
          first | exact hJ45 | (simp only [if_neg h24, if_neg h25, if_neg h26]; exact hJ45)
def fX0_dates_J103 (x1 : Int32) (x2 : Nat) (x3 : Int32) (s0 : Int32) (rec22 : (Int32 × Sg) → Option Sg) (σ : Sg) : Option Sg :=
  if [17, 18, 19, 20, 21].elem (kk σ x2) = true then if [17, 18, 19, 20, 21].elem (kk σ x2) = true then if [17, 18, 19, 20, 21].elem (kk σ x2) = true then (fX0_isDate (gi σ x2 2) (gi σ x2 3) (gi σ x2 4) 0).bind fun q19 => if q19 = 0 then fX0_dates_J144 x1 x3 s0 (-1) rec22 σ else if [17, 18, 19, 20, 21].elem (kk σ x2) = true then if [17, 18, 19, 20, 21].elem (kk σ x2) = true then if [17, 18, 19, 20, 21].elem (kk σ x2) = true then (fX0_dayAt (gi σ x2 2) (gi σ x2 3) (gi σ x2 4) 0).bind fun q49 => fX0_dates_J144 x1 x3 s0 q49 rec22 σ else none else none else none else none else none else none
set_option maxHeartbeats 1500000 in
theorem fX0_dates_J103_ok (x1 : Int32) (x2 : Nat) (x3 : Int32) (s0 : Int32) (rec22 : (Int32 × Sg) → Option Sg) (σ : Sg) (hrec22 : ∀ (y1 : Int32) (τ : Sg) (r : Sg), rec22 (y1, τ) = some r → Go true 3 iX0_dates (22, [some (.ref 0), some (.int y1), none, none, none, none], [], τ) (.inl none, r)) (r : Sg) (hf : fX0_dates_J103 x1 x2 x3 s0 rec22 σ = some r) : Go true 3 iX0_dates (103, [some (.ref 0), some (.int x1), some (.ref x2), some (.int x3), none, none], [.int s0], σ) (.inl none, r) := by
  unfold fX0_dates_J103 at hf
  refine go_n 2 (f := (106, [some (.ref 0), some (.int x1), some (.ref x2), some (.int x3), some (.int s0), none], [.ref x2], σ)) rfl ?_
  obtain ⟨h16, hf⟩ := grd hf
  refine go_get rfl rfl rfl h16 ?_
  refine go_n 1 (f := (110, [some (.ref 0), some (.int x1), some (.ref x2), some (.int x3), some (.int s0), none], [.ref x2, .int (gi σ x2 2)], σ)) rfl ?_
  obtain ⟨h17, hf⟩ := grd hf
  refine go_get rfl rfl rfl h17 ?_
  refine go_n 1 (f := (114, [some (.ref 0), some (.int x1), some (.ref x2), some (.int x3), some (.int s0), none], [.ref x2, .int (gi σ x2 3), .int (gi σ x2 2)], σ)) rfl ?_
  obtain ⟨h18, hf⟩ := grd hf
  refine go_get rfl rfl rfl h18 ?_
  refine go_n 1 (f := (118, [some (.ref 0), some (.int x1), some (.ref x2), some (.int x3), some (.int s0), none], [.int 0, .int (gi σ x2 4), .int (gi σ x2 3), .int (gi σ x2 2)], σ)) rfl ?_
  obtain ⟨q19, h20, hf⟩ := bnd hf
  refine go_c (mid := 5123) (args := [.int (gi σ x2 2), .int (gi σ x2 3), .int (gi σ x2 4), .int 0]) (pc := 121) (L := [some (.ref 0), some (.int x1), some (.ref x2), some (.int x3), some (.int s0), none]) (st := []) (σ := σ) rfl ((fX0_isDate_ok _ _ _ _ _ q19 h20).deep (Nat.le_of_ble_eq_true rfl)) ?_
  by_cases h21 : q19 = 0
  · rw [if_pos h21] at hf
    refine go_it (t := 143) (f := 124) (L1 := [some (.ref 0), some (.int x1), some (.ref x2), some (.int x3), some (.int s0), none]) (st1 := []) (σ1 := σ) rfl h21 ?_
    refine go_n 1 (f := (144, [some (.ref 0), some (.int x1), some (.ref x2), some (.int x3), some (.int s0), none], [.int (-1)], σ)) rfl ?_
    refine go_e (L1 := [some (.ref 0), some (.int x1), none, some (.int x3), some (.int s0), none]) rfl rfl ?_
    exact fX0_dates_J144_ok _ _ _ _ _ _ hrec22 _ hf
  · rw [if_neg h21] at hf
    refine go_if (t := 143) (f := 124) (L1 := [some (.ref 0), some (.int x1), some (.ref x2), some (.int x3), some (.int s0), none]) (st1 := []) (σ1 := σ) rfl h21 ?_
    refine go_n 1 (f := (125, [some (.ref 0), some (.int x1), some (.ref x2), some (.int x3), some (.int s0), none], [.ref x2], σ)) rfl ?_
    obtain ⟨h46, hf⟩ := grd hf
    refine go_get rfl rfl rfl h46 ?_
    refine go_n 1 (f := (129, [some (.ref 0), some (.int x1), some (.ref x2), some (.int x3), some (.int s0), none], [.ref x2, .int (gi σ x2 2)], σ)) rfl ?_
    obtain ⟨h47, hf⟩ := grd hf
    refine go_get rfl rfl rfl h47 ?_
    refine go_n 1 (f := (133, [some (.ref 0), some (.int x1), some (.ref x2), some (.int x3), some (.int s0), none], [.ref x2, .int (gi σ x2 3), .int (gi σ x2 2)], σ)) rfl ?_
    obtain ⟨h48, hf⟩ := grd hf
    refine go_get rfl rfl rfl h48 ?_
    refine go_n 1 (f := (137, [some (.ref 0), some (.int x1), some (.ref x2), some (.int x3), some (.int s0), none], [.int 0, .int (gi σ x2 4), .int (gi σ x2 3), .int (gi σ x2 2)], σ)) rfl ?_
    obtain ⟨q49, h50, hf⟩ := bnd hf
    refine go_c (mid := 5126) (args := [.int (gi σ x2 2), .int (gi σ x2 3), .int (gi σ x2 4), .int 0]) (pc := 140) (L := [some (.ref 0), some (.int x1), some (.ref x2), some (.int x3), some (.int s0), none]) (st := []) (σ := σ) rfl ((fX0_dayAt_ok _ _ _ _ _ q49 h50).deep (Nat.le_of_ble_eq_true rfl)) ?_
    refine go_n 1 (f := (144, [some (.ref 0), some (.int x1), some (.ref x2), some (.int x3), some (.int s0), none], [.int q49], σ)) rfl ?_
    refine go_e (L1 := [some (.ref 0), some (.int x1), none, some (.int x3), some (.int s0), none]) rfl rfl ?_
    exact fX0_dates_J144_ok _ _ _ _ _ _ hrec22 _ hf
def fX0_dates_L22   (rec22 : (Int32 × Sg) → Option Sg) (s : Int32 × Sg) : Option Sg :=
  match s with
  | (x1, σ) => (fJ2_size 2 σ).bind fun q2 => if q2 ≤ x1 then some σ else (fJ2_get 2 x1 σ).bind fun q5 => if [17, 18, 19, 20, 21].elem (kk σ q5) = true then if [17, 18, 19, 20, 21].elem (kk σ q5) = true then if inb (gi σ q5 1) 16 then if [17, 18, 19, 20, 21].elem (kk σ q5) = true then if [17, 18, 19, 20, 21].elem (kk σ q5) = true then if [17, 18, 19, 20, 21].elem (kk σ q5) = true then (fX0_isDate (gi σ q5 2) (gi σ q5 3) (gi σ q5 4) 1).bind fun q13 => if q13 = 0 then fX0_dates_J103 x1 q5 (gi σ 16 (gi σ q5 1).toNatClampNeg) (-1) rec22 σ else if [17, 18, 19, 20, 21].elem (kk σ q5) = true then if [17, 18, 19, 20, 21].elem (kk σ q5) = true then if [17, 18, 19, 20, 21].elem (kk σ q5) = true then (fX0_dayAt (gi σ q5 2) (gi σ q5 3) (gi σ q5 4) 1).bind fun q54 => fX0_dates_J103 x1 q5 (gi σ 16 (gi σ q5 1).toNatClampNeg) q54 rec22 σ else none else none else none else none else none else none else none else none else none
set_option maxHeartbeats 1500000 in
theorem fX0_dates_L22_ok    : ∀ (n : Nat) (x1 : Int32) (σ : Sg) (r : Sg), lp (fX0_dates_L22  ) n (x1, σ) = some r → Go true 3 iX0_dates (22, [some (.ref 0), some (.int x1), none, none, none, none], [], σ) (.inl none, r) := by
  intro n
  induction n with
  | zero => intro x1 σ r hf; cases hf
  | succ n ih =>
    intro x1 σ r hf
    have hf : fX0_dates_L22   (lp (fX0_dates_L22  ) n) (x1, σ) = some r := hf
    have hrec22 := ih
    generalize lp (fX0_dates_L22  ) n = rec22 at hf hrec22
    unfold fX0_dates_L22 at hf
    dsimp only at hf
    refine go_n 4 (f := (30, [some (.ref 0), some (.int x1), none, none, none, none], [.ref 2, .int x1], σ)) rfl ?_
    obtain ⟨q2, h3, hf⟩ := bnd hf
    refine go_c (mid := 2821) (args := [.ref 2]) (pc := 33) (L := [some (.ref 0), some (.int x1), none, none, none, none]) (st := [.int x1]) (σ := σ) rfl ((fJ2_size_ok _ _ q2 h3).deep (Nat.le_of_ble_eq_true rfl)) ?_
    by_cases h4 : q2 ≤ x1
    · rw [if_pos h4] at hf
      refine go_it (t := 240) (f := 36) (L1 := [some (.ref 0), some (.int x1), none, none, none, none]) (st1 := []) (σ1 := σ) rfl h4 ?_
      cases hf
      exact go_r rfl
    · rw [if_neg h4] at hf
      refine go_if (t := 240) (f := 36) (L1 := [some (.ref 0), some (.int x1), none, none, none, none]) (st1 := []) (σ1 := σ) rfl h4 ?_
      refine go_n 4 (f := (44, [some (.ref 0), some (.int x1), none, none, none, none], [.int x1, .ref 2], σ)) rfl ?_
      obtain ⟨q5, h6, hf⟩ := bnd hf
      refine go_c (mid := 2825) (args := [.ref 2, .int x1]) (pc := 47) (L := [some (.ref 0), some (.int x1), none, none, none, none]) (st := []) (σ := σ) rfl ((fJ2_get_ok _ _ _ q5 h6).deep (Nat.le_of_ble_eq_true rfl)) ?_
      obtain ⟨h7, hf⟩ := grd hf
      refine go_cast rfl rfl rfl h7 ?_
      refine go_n 5 (f := (59, [some (.ref 0), some (.int x1), some (.ref q5), none, none, none], [.ref q5, .ref 16], σ)) rfl ?_
      obtain ⟨h8, hf⟩ := grd hf
      refine go_get rfl rfl rfl h8 ?_
      obtain ⟨h9, hf⟩ := grd hf
      refine go_iald rfl rfl rfl h9 ?_
      refine go_n 2 (f := (65, [some (.ref 0), some (.int x1), some (.ref q5), some (.int (gi σ 16 (gi σ q5 1).toNatClampNeg)), none, none], [.ref q5], σ)) rfl ?_
      obtain ⟨h10, hf⟩ := grd hf
      refine go_get rfl rfl rfl h10 ?_
      refine go_n 1 (f := (69, [some (.ref 0), some (.int x1), some (.ref q5), some (.int (gi σ 16 (gi σ q5 1).toNatClampNeg)), none, none], [.ref q5, .int (gi σ q5 2)], σ)) rfl ?_
      obtain ⟨h11, hf⟩ := grd hf
      refine go_get rfl rfl rfl h11 ?_
      refine go_n 1 (f := (73, [some (.ref 0), some (.int x1), some (.ref q5), some (.int (gi σ 16 (gi σ q5 1).toNatClampNeg)), none, none], [.ref q5, .int (gi σ q5 3), .int (gi σ q5 2)], σ)) rfl ?_
      obtain ⟨h12, hf⟩ := grd hf
      refine go_get rfl rfl rfl h12 ?_
      refine go_n 1 (f := (77, [some (.ref 0), some (.int x1), some (.ref q5), some (.int (gi σ 16 (gi σ q5 1).toNatClampNeg)), none, none], [.int 1, .int (gi σ q5 4), .int (gi σ q5 3), .int (gi σ q5 2)], σ)) rfl ?_
      obtain ⟨q13, h14, hf⟩ := bnd hf
      refine go_c (mid := 5123) (args := [.int (gi σ q5 2), .int (gi σ q5 3), .int (gi σ q5 4), .int 1]) (pc := 80) (L := [some (.ref 0), some (.int x1), some (.ref q5), some (.int (gi σ 16 (gi σ q5 1).toNatClampNeg)), none, none]) (st := []) (σ := σ) rfl ((fX0_isDate_ok _ _ _ _ _ q13 h14).deep (Nat.le_of_ble_eq_true rfl)) ?_
      by_cases h15 : q13 = 0
      · rw [if_pos h15] at hf
        refine go_it (t := 102) (f := 83) (L1 := [some (.ref 0), some (.int x1), some (.ref q5), some (.int (gi σ 16 (gi σ q5 1).toNatClampNeg)), none, none]) (st1 := []) (σ1 := σ) rfl h15 ?_
        refine go_n 1 (f := (103, [some (.ref 0), some (.int x1), some (.ref q5), some (.int (gi σ 16 (gi σ q5 1).toNatClampNeg)), none, none], [.int (-1)], σ)) rfl ?_
        exact fX0_dates_J103_ok _ _ _ _ _ _ hrec22 _ hf
      · rw [if_neg h15] at hf
        refine go_if (t := 102) (f := 83) (L1 := [some (.ref 0), some (.int x1), some (.ref q5), some (.int (gi σ 16 (gi σ q5 1).toNatClampNeg)), none, none]) (st1 := []) (σ1 := σ) rfl h15 ?_
        refine go_n 1 (f := (84, [some (.ref 0), some (.int x1), some (.ref q5), some (.int (gi σ 16 (gi σ q5 1).toNatClampNeg)), none, none], [.ref q5], σ)) rfl ?_
        obtain ⟨h51, hf⟩ := grd hf
        refine go_get rfl rfl rfl h51 ?_
        refine go_n 1 (f := (88, [some (.ref 0), some (.int x1), some (.ref q5), some (.int (gi σ 16 (gi σ q5 1).toNatClampNeg)), none, none], [.ref q5, .int (gi σ q5 2)], σ)) rfl ?_
        obtain ⟨h52, hf⟩ := grd hf
        refine go_get rfl rfl rfl h52 ?_
        refine go_n 1 (f := (92, [some (.ref 0), some (.int x1), some (.ref q5), some (.int (gi σ 16 (gi σ q5 1).toNatClampNeg)), none, none], [.ref q5, .int (gi σ q5 3), .int (gi σ q5 2)], σ)) rfl ?_
        obtain ⟨h53, hf⟩ := grd hf
        refine go_get rfl rfl rfl h53 ?_
        refine go_n 1 (f := (96, [some (.ref 0), some (.int x1), some (.ref q5), some (.int (gi σ 16 (gi σ q5 1).toNatClampNeg)), none, none], [.int 1, .int (gi σ q5 4), .int (gi σ q5 3), .int (gi σ q5 2)], σ)) rfl ?_
        obtain ⟨q54, h55, hf⟩ := bnd hf
        refine go_c (mid := 5126) (args := [.int (gi σ q5 2), .int (gi σ q5 3), .int (gi σ q5 4), .int 1]) (pc := 99) (L := [some (.ref 0), some (.int x1), some (.ref q5), some (.int (gi σ 16 (gi σ q5 1).toNatClampNeg)), none, none]) (st := []) (σ := σ) rfl ((fX0_dayAt_ok _ _ _ _ _ q54 h55).deep (Nat.le_of_ble_eq_true rfl)) ?_
        refine go_n 1 (f := (103, [some (.ref 0), some (.int x1), some (.ref q5), some (.int (gi σ 16 (gi σ q5 1).toNatClampNeg)), none, none], [.int q54], σ)) rfl ?_
        exact fX0_dates_J103_ok _ _ _ _ _ _ hrec22 _ hf
def fX0_dates  (σ : Sg) : Option Sg :=
  if (gi σ 0 6) ≠ (gi σ 0 1) then lp (fX0_dates_L22  ) N0 (0, (wi σ 0 6 (gi σ 0 1))) else some σ
set_option maxHeartbeats 1500000 in
theorem fX0_dates_ok  (σ : Sg) (r : Sg) (hf : fX0_dates  σ = some r) : Cl true 3 5159 [.ref 0] σ (.inl none, r) := by
  refine ⟨iX0_dates, rfl, Nat.le_of_ble_eq_true rfl, Nat.le_of_ble_eq_true rfl, ?_⟩
  show Go true 3 iX0_dates (0, [some (.ref 0), none, none, none, none, none], [], σ) (.inl none, r)
  unfold fX0_dates at hf
  refine go_n 4 (f := (8, [some (.ref 0), none, none, none, none, none], [.int (gi σ 0 1), .int (gi σ 0 6)], σ)) rfl ?_
  by_cases h1 : (gi σ 0 6) ≠ (gi σ 0 1)
  · rw [if_pos h1] at hf
    refine go_it (t := 12) (f := 11) (L1 := [some (.ref 0), none, none, none, none, none]) (st1 := []) (σ1 := σ) rfl h1 ?_
    refine go_n 6 (f := (22, [some (.ref 0), some (.int 0), none, none, none, none], [], (wi σ 0 6 (gi σ 0 1)))) rfl ?_
    exact fX0_dates_L22_ok    N0 _ _ _ hf
  · rw [if_neg h1] at hf
    refine go_if (t := 12) (f := 11) (L1 := [some (.ref 0), none, none, none, none, none]) (st1 := []) (σ1 := σ) rfl h1 ?_
    cases hf
    exact go_r rfl
/-! OldWeather.isSure(II)Z -/
def fX0_isSure (x1 : Int32) (x2 : Int32) (σ : Sg) : Option Int32 :=
  (fX0_isKnown x1 x2 σ).bind fun q1 => if q1 = 0 then some 0 else if inb x1 200 then if (gi σ 25 x1.toNatClampNeg) = (-1) then some 0 else if inb x1 200 then ((fun (z8 : Int32) => some z8) ((if (gi σ 26 x1.toNatClampNeg) ≠ (-1) then 0 else 1) : Int32)) else none else none
set_option maxHeartbeats 1500000 in
theorem fX0_isSure_ok (x1 : Int32) (x2 : Int32) (σ : Sg) (r : Int32) (hf : fX0_isSure x1 x2 σ = some r) : Cl true 4 5169 [.ref 0, .int x1, .int x2] σ (.inl (some (.int r)), σ) := by
  refine ⟨iX0_isSure, rfl, Nat.le_of_ble_eq_true rfl, Nat.le_of_ble_eq_true rfl, ?_⟩
  show Go true 4 iX0_isSure (0, [some (.ref 0), some (.int x1), some (.int x2)], [], σ) (.inl (some (.int r)), σ)
  unfold fX0_isSure at hf
  refine go_n 3 (f := (3, [some (.ref 0), some (.int x1), some (.int x2)], [.int x2, .int x1, .ref 0], σ)) rfl ?_
  obtain ⟨q1, h2, hf⟩ := bnd hf
  refine go_c (mid := 5170) (args := [.ref 0, .int x1, .int x2]) (pc := 6) (L := [some (.ref 0), some (.int x1), some (.int x2)]) (st := []) (σ := σ) rfl ((fX0_isKnown_ok _ _ _ q1 h2).deep (Nat.le_of_ble_eq_true rfl)) ?_
  by_cases h3 : q1 = 0
  · rw [if_pos h3] at hf
    refine go_it (t := 33) (f := 9) (L1 := [some (.ref 0), some (.int x1), some (.int x2)]) (st1 := []) (σ1 := σ) rfl h3 ?_
    refine go_e (L1 := [none, none, none]) rfl rfl ?_
    refine go_n 1 (f := (34, [none, none, none], [.int 0], σ)) rfl ?_
    cases hf
    exact go_r rfl
  · rw [if_neg h3] at hf
    refine go_if (t := 33) (f := 9) (L1 := [some (.ref 0), some (.int x1), some (.int x2)]) (st1 := []) (σ1 := σ) rfl h3 ?_
    refine go_n 3 (f := (14, [some (.ref 0), some (.int x1), some (.int x2)], [.int x1, .ref 25], σ)) rfl ?_
    obtain ⟨h4, hf⟩ := grd hf
    refine go_iald rfl rfl rfl h4 ?_
    refine go_n 1 (f := (16, [some (.ref 0), some (.int x1), some (.int x2)], [.int (-1), .int (gi σ 25 x1.toNatClampNeg)], σ)) rfl ?_
    by_cases h5 : (gi σ 25 x1.toNatClampNeg) = (-1)
    · rw [if_pos h5] at hf
      refine go_it (t := 33) (f := 19) (L1 := [some (.ref 0), some (.int x1), some (.int x2)]) (st1 := []) (σ1 := σ) rfl h5 ?_
      refine go_e (L1 := [none, none, none]) rfl rfl ?_
      refine go_n 1 (f := (34, [none, none, none], [.int 0], σ)) rfl ?_
      cases hf
      exact go_r rfl
    · rw [if_neg h5] at hf
      refine go_if (t := 33) (f := 19) (L1 := [some (.ref 0), some (.int x1), some (.int x2)]) (st1 := []) (σ1 := σ) rfl h5 ?_
      refine go_n 3 (f := (24, [some (.ref 0), some (.int x1), some (.int x2)], [.int x1, .ref 26], σ)) rfl ?_
      obtain ⟨h6, hf⟩ := grd hf
      refine go_iald rfl rfl rfl h6 ?_
      refine go_n 1 (f := (26, [some (.ref 0), some (.int x1), some (.int x2)], [.int (-1), .int (gi σ 26 x1.toNatClampNeg)], σ)) rfl ?_
      refine go_m (f := (34, [none, none, none], [.int ((if (gi σ 26 x1.toNatClampNeg) ≠ (-1) then 0 else 1) : Int32)], σ)) ?_ (fun hJ9 => ?_)
      · generalize hz8 : ((if (gi σ 26 x1.toNatClampNeg) ≠ (-1) then 0 else 1) : Int32) = z8 at hf ⊢
        have oz8 : am_ok 3 z8 = true := hz8 ▸ (okb rfl rfl)
        try dsimp only at hf
        cases hf
        exact go_ret rfl rfl (Or.inr (Or.inl ⟨rfl, oz8⟩))
      · by_cases h7 : (gi σ 26 x1.toNatClampNeg) ≠ (-1)
        · refine go_it (t := 33) (f := 29) (L1 := [some (.ref 0), some (.int x1), some (.int x2)]) (st1 := []) (σ1 := σ) rfl h7 ?_
          refine go_e (L1 := [none, none, none]) rfl rfl ?_
          refine go_n 1 (f := (34, [none, none, none], [.int 0], σ)) rfl ?_
          refine go_e (L1 := [none, none, none]) rfl rfl ?_
          simp only [if_pos h7] at hJ9
          first | exact hJ9 | (simp only [if_pos h7]; exact hJ9)
        · refine go_if (t := 33) (f := 29) (L1 := [some (.ref 0), some (.int x1), some (.int x2)]) (st1 := []) (σ1 := σ) rfl h7 ?_
          refine go_n 2 (f := (34, [some (.ref 0), some (.int x1), some (.int x2)], [.int 1], σ)) rfl ?_
          refine go_e (L1 := [none, none, none]) rfl rfl ?_
          simp only [if_neg h7] at hJ9
          first | exact hJ9 | (simp only [if_neg h7]; exact hJ9)
